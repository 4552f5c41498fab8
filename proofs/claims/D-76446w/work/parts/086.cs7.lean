/-! THE CLASS'S METHODS against the abstract state, on: set, images, orders -/
section CSH
variable {χ : xx_S} {s : pp_S} {Q : Int32 → xx_S → Prop}
/-- a number is another -/
theorem cc_C_num {K : pp_K} {c : pp_C} {p y k : Nat} {n a : Int32} {v : Nat} (h : cc_C χ K c) (hp : p < K.many) (hy : xx_r χ 43 p = some y) (hgl : xx_gl χ y k n a) (hv : v ≤ 9) : cc_C (xx_ps χ y (.inr (k, [.int (nI v), .int a]))) (K.1, K.2.1, pp_up K.num p v, K.2.2.2) c := by
  obtain ⟨h1, h2, h3, h4, h5, h6, h7⟩ := h
  refine ⟨h1, h2, h3, fun q hq => ?_, h5, cc_tx_pool h6 (cc_pool_ps hgl ⟨_, hy⟩) rfl, h7⟩
  show cc_fo _ q (K.kd q) (pp_up K.num p v q) (c.ap q)
  obtain ⟨⟨z, z1, z2⟩, z3⟩ := h4 q hq
  unfold pp_up
  by_cases e : q = p
  · subst e
    rw [if_pos rfl]
    cases z1.symm.trans hy
    have e2 := hgl.2.1.symm.trans z2.2.1
    cases e2
    refine ⟨⟨_, hy, z2.1, ?_, z2.2.2⟩, z3.1, hv, z3.2.2⟩
    rw [xx_fps]
    unfold va_up
    rw [if_pos rfl]
  · rw [if_neg e]
    have hne : z ≠ y := fun w => e (h7.1 q p hq (by rw [z1, hy, w]))
    refine ⟨⟨z, z1, z2.1, ?_, z2.2.2⟩, z3⟩
    rw [xx_fps]
    unfold va_up
    rw [if_neg hne]
    exact z2.2.1
theorem RX_num {p y k v : Nat} {n a : Int32} (h : RX χ s) (hp : p < s.g.1) (hy : xx_r χ 43 p = some y) (hgl : xx_gl χ y k n a) (hv : v ≤ 9) : RX (xx_ps χ y (.inr (k, [.int (nI v), .int a]))) (s.c, (s.g.1, s.g.2.1, pp_up s.g.2.2 p v), s.t, s.tp, s.im, s.sh) :=
  RX_core (g := (s.g.1, s.g.2.1, pp_up s.g.2.2 p v)) (K := (s.K.1, s.K.2.1, pp_up s.K.num p v, s.K.2.2.2)) h rfl rfl (cc_C_num h.1 hp hy hgl hv) h.2.1 (fun _ _ => rfl) (fun _ _ _ => rfl) (cc_pool_ps hgl ⟨_, hy⟩)
/-- a setting becomes another -/
theorem cs_becomes {Q : xx_S → Prop} {k p n : Nat} (h : RX χ s) (hk : k < 3) (hp : k = 0 ∨ p < s.g.1) (hn : n ≤ if k = 1 then 9 else 999) {x : Int32} (hx : k = 0 ∨ x = nI p) (hq : ∀ χ', RX χ' (if k = 0 then s.setc (s.c.b, s.c.L, s.c.ap, n) else if k = 1 then (s.c, (s.g.1, s.g.2.1, pp_up s.g.2.2 p n), s.t, s.tp, s.im, s.sh) else s.setc (s.c.b, s.c.L, pp_up s.c.ap p n, s.c.nt)) → Q χ') : xxw_becomes (nI k) x (nI n) χ Q := by
  have hm' : s.g.1 ≤ 5 := h.1.1
  unfold xxw_becomes
  rcases (show k = 0 ∨ k = 1 ∨ k = 2 by omega) with rfl | rfl | rfl
  · refine ⟨fun _ => ?_, fun z => absurd z (by decide), fun z => absurd rfl z.1⟩
    rintro _ rfl
    exact hq _ (RX_core (g := s.g) (K := s.K) h rfl rfl (cc_C_nt h.1) hn (fun k hk => xx_ot (fun z => absurd hk (by rw [z]; decide))) (fun i hi k => xx_ro ((show ∀ i, i ∈ [7, 26, 27, 28, 29, 30] → i ≠ 0 by decide) i hi)) (cc_pool_e rfl))
  · obtain hp := hp.resolve_left (by decide)
    obtain rfl := hx.resolve_left (by decide)
    obtain ⟨⟨y, y1, y2⟩, y3⟩ := h.1.2.2.2.1 p hp
    rw [ml_cl (by omega)]
    refine ⟨fun z => absurd z (by decide), fun _ => ⟨ml_in (by omega) (by decide), y, y1, _, _, _, y2, ?_⟩, fun z => absurd rfl z.2⟩
    rintro _ rfl
    exact hq _ (RX_num h hp y1 y2 hn)
  · obtain hp := hp.resolve_left (by decide)
    obtain rfl := hx.resolve_left (by decide)
    obtain ⟨⟨y, y1, y2⟩, y3⟩ := h.1.2.2.2.1 p hp
    rw [ml_cl (by omega)]
    refine ⟨fun z => absurd z (by decide), fun z => absurd z (by decide), fun _ => ⟨ml_in (by omega) (by decide), y, y1, _, _, _, y2, ?_⟩⟩
    rintro _ rfl
    exact hq _ (RX_core (g := s.g) (K := s.K) h rfl rfl (cc_C_ap h.1 hp y1 y2 hn) h.2.1 (fun _ _ => rfl) (fun _ _ _ => rfl) (cc_pool_ps y2 ⟨_, y1⟩))
theorem xs_set {w x v : Int32} (h : RX χ s) (hq : ∀ χ', RX χ' (po_set s w x v).2 → Q (po_set s w x v).1 χ') : xxw_set w x v χ Q := by
  have hm' : s.g.1 ≤ 5 := h.1.1
  unfold po_set at hq
  unfold xxw_set xxw_isSo
  by_cases e0 : w = 0
  · subst e0
    rw [show (0 : Int32) = nI 0 from rfl, pp_ix_some (show 0 < 3 by decide) (by decide)] at hq
    dsimp only at hq
    rw [if_pos rfl] at hq
    refine ⟨fun _ => cs_lt (n := 1000) (by decide) (by decide) (fun n hn e => ml_1 ?_) (fun e => ml_0 ?_), fun z => absurd z (by decide), fun z => absurd rfl z.1⟩
    · subst e
      rw [pp_ix_some hn (by decide)] at hq
      refine xs_told h (fun χ1 h1 => cs_becomes (k := 0) (p := 0) (n := n) h1 (by decide) (Or.inl rfl) (by show n ≤ 999; omega) (Or.inl rfl) (fun χ2 h2 => hq χ2 h2))
    · rw [pp_ix_none (by decide) e] at hq
      exact hq χ h
  · by_cases e1 : w = 1
    · subst e1
      rw [show (1 : Int32) = nI 1 from rfl, pp_ix_some (show 1 < 3 by decide) (by decide)] at hq
      dsimp only at hq
      rw [if_neg (by decide)] at hq
      refine ⟨fun z => absurd z (by decide), fun _ => cs_isOne (n := s.g.1) h.1.2.1 hm' (fun p hp e => ml_1 ?_) (fun e => ml_0 (ml_0 ?_)), fun z => absurd rfl z.2⟩
      · subst e
        rw [pp_ix_some (n := s.g.1) hp (by omega)] at hq
        dsimp only at hq
        rw [if_pos rfl] at hq
        refine cs_lt (n := 10) (by decide) (by decide) (fun n hn e => ml_1 (ml_1 ?_)) (fun e => ml_0 (ml_0 ?_))
        · subst e
          rw [pp_ix_some hn (by decide)] at hq
          refine xs_told h (fun χ1 h1 => cs_becomes (k := 1) (p := p) (n := n) h1 (by decide) (Or.inr hp) (by show n ≤ 9; omega) (Or.inr rfl) (fun χ2 h2 => hq χ2 h2))
        · rw [pp_ix_none (by decide) e] at hq
          exact hq χ h
      · rw [pp_ix_none (n := s.g.1) (by omega) e] at hq
        exact hq χ h
    · refine ⟨fun z => absurd z e0, fun z => absurd z e1, fun _ => ⟨fun e2 => ?_, fun e2 => ml_0 ?_⟩⟩
      · subst e2
        rw [show (2 : Int32) = nI 2 from rfl, pp_ix_some (show 2 < 3 by decide) (by decide)] at hq
        dsimp only at hq
        rw [if_neg (by decide)] at hq
        refine cs_isOne (n := s.g.1) h.1.2.1 hm' (fun p hp e => ml_1 ?_) (fun e => ml_0 (ml_0 ?_))
        · subst e
          rw [pp_ix_some (n := s.g.1) hp (by omega)] at hq
          dsimp only at hq
          rw [if_neg (by decide)] at hq
          refine cs_lt (n := 1000) (by decide) (by decide) (fun n hn e => ml_1 (ml_1 ?_)) (fun e => ml_0 (ml_0 ?_))
          · subst e
            rw [pp_ix_some hn (by decide)] at hq
            refine xs_told h (fun χ1 h1 => cs_becomes (k := 2) (p := p) (n := n) h1 (by decide) (Or.inr hp) (by show n ≤ 999; omega) (Or.inr rfl) (fun χ2 h2 => hq χ2 h2))
          · rw [pp_ix_none (by decide) e] at hq
            exact hq χ h
        · rw [pp_ix_none (n := s.g.1) (by omega) e] at hq
          exact hq χ h
      · rw [pp_ix_none (by decide) (fun k hk z => by
          rcases (show k = 0 ∨ k = 1 ∨ k = 2 by omega) with rfl | rfl | rfl
          · exact e0 z
          · exact e1 z
          · exact e2 z)] at hq
        exact hq χ h
/-! images -/
theorem cs_image_34 {χ0 : xx_S} (hc : cc_C χ0 s.K s.c) (h24 : xx_g χ0 0 24 = nI s.t.1) (hq : ∀ χ', (∀ i k, i ≠ 7 → i ≠ 28 → i ≠ 29 → ¬ (i = 0 ∧ k = 35) → xx_g χ' i k = xx_g χ0 i k) → χ'.2 = χ0.2 → (∀ p, p < s.g.1 → xx_g χ' 28 p = nI (s.g.2.2 p) ∧ xx_g χ' 29 p = nI (s.c.ap p)) → xx_g χ' 7 0 = nI s.g.1 → xx_g χ' 7 1 = nI s.c.nt → xx_g χ' 7 2 = nI s.t.1 → xx_g χ' 0 35 = 1 → Q (nI s.g.1) χ') :
    ∀ (d k : Nat) (χ : xx_S), k + d = s.g.1 → (∀ i q, i ≠ 28 → i ≠ 29 → xx_g χ i q = xx_g χ0 i q) → χ.2 = χ0.2 → (∀ p, p < k → xx_g χ 28 p = nI (s.g.2.2 p) ∧ xx_g χ 29 p = nI (s.c.ap p)) → xxw_image_34 Q (d + 1) (nI k) χ := by
  have hm' : s.g.1 ≤ 5 := hc.1
  have h1 : xx_g χ0 0 1 = nI s.g.1 := hc.2.1
  have z0 : (0 : Int32).toNatClampNeg = 0 := by decide
  have z1 : (1 : Int32).toNatClampNeg = 1 := by decide
  have z2 : (2 : Int32).toNatClampNeg = 2 := by decide
  intro d
  induction d with
  | zero =>
    intro k χ hk he hp hd
    obtain rfl : k = s.g.1 := by omega
    unfold xxw_image_34
    rw [he 0 1 (by decide) (by decide), h1, nI_leI (by omega) (by omega), z0, z1, z2]
    refine ⟨fun _ => ⟨ml_in (n := 0) (by decide) (by decide), ?_⟩, fun z => absurd (Nat.le_refl _) z⟩
    rintro _ rfl
    refine ⟨ml_in (n := 1) (by decide) (by decide), ?_⟩
    rintro _ rfl
    refine ⟨ml_in (n := 2) (by decide) (by decide), ?_⟩
    rintro _ rfl _ rfl
    rw [xx_ot (by decide), xx_ro (show (0 : Nat) ≠ 7 by decide), xx_ro (show (0 : Nat) ≠ 7 by decide), xx_ro (show (0 : Nat) ≠ 7 by decide), he 0 1 (by decide) (by decide), h1]
    refine hq _ (fun i q a b c e => ?_) hp (fun p hp' => ?_) ?_ ?_ ?_ xx_me
    · rw [xx_gs, if_neg e, xx_ro a, xx_ro a, xx_ro a]
      exact he i q b c
    · rw [xx_ro (show (28 : Nat) ≠ 0 by decide), xx_ro (show (28 : Nat) ≠ 7 by decide), xx_ro (show (28 : Nat) ≠ 7 by decide), xx_ro (show (28 : Nat) ≠ 7 by decide), xx_ro (show (29 : Nat) ≠ 0 by decide), xx_ro (show (29 : Nat) ≠ 7 by decide), xx_ro (show (29 : Nat) ≠ 7 by decide), xx_ro (show (29 : Nat) ≠ 7 by decide)]
      exact hd p hp'
    · rw [xx_ro (show (7 : Nat) ≠ 0 by decide), xx_gs, if_neg (by decide), xx_gs, if_neg (by decide), xx_gs, if_pos ⟨rfl, rfl⟩]
    · rw [xx_ro (show (7 : Nat) ≠ 0 by decide), xx_gs, if_neg (by decide), xx_gs, if_pos ⟨rfl, rfl⟩, xx_ro (show (0 : Nat) ≠ 7 by decide), he 0 2 (by decide) (by decide)]
      exact hc.2.2.2.2.1
    · rw [xx_ro (show (7 : Nat) ≠ 0 by decide), xx_gs, if_pos ⟨rfl, rfl⟩, xx_ro (show (0 : Nat) ≠ 7 by decide), xx_ro (show (0 : Nat) ≠ 7 by decide), he 0 24 (by decide) (by decide)]
      exact h24
  | succ d ih =>
    intro k χ hk he hp hd
    obtain ⟨⟨y, y1, y2⟩, y3⟩ := hc.2.2.2.1 k (show k < s.g.1 by omega)
    unfold xxw_image_34
    rw [he 0 1 (by decide) (by decide), h1, nI_leI (by omega) (by omega), z0, z1, ml_cl (by omega), nI_1]
    refine ⟨fun z => by omega, fun _ => ⟨ml_in (n := 0) (by decide) (by decide), ml_in (by omega) (by decide), y, by show χ.2.1 43 k = _; rw [hp]; exact y1, _, _, _, cc_gl_e hp y2, ml_in (by omega) (by decide), ?_⟩⟩
    rintro _ rfl
    refine ⟨ml_in (n := 1) (by decide) (by decide), ml_in (by omega) (by decide), y, by show χ.2.1 43 k = _; rw [hp]; exact y1, _, _, _, cc_gl_e hp y2, ml_in (by omega) (by decide), ?_⟩
    rintro _ rfl
    refine ih (k + 1) _ (by omega) (fun i q a b => by rw [xx_ro b, xx_ro a]; exact he i q a b) hp (fun p hp' => ?_)
    rw [show xx_g (xx_s (xx_s χ (28 + 0) k (nI (s.K.num k))) (28 + 1) k (nI (s.c.ap k))) 28 p = xx_g (xx_s χ 28 k (nI (s.K.num k))) 28 p from xx_ro (by decide), xx_gs, show xx_g (xx_s (xx_s χ (28 + 0) k (nI (s.K.num k))) (28 + 1) k (nI (s.c.ap k))) 29 p = if 29 = 29 ∧ p = k then nI (s.c.ap k) else xx_g (xx_s χ 28 k (nI (s.K.num k))) 29 p from xx_gs _ _ _ _ _ _, xx_ro (show (29 : Nat) ≠ 28 by decide)]
    by_cases e : p = k
    · rw [if_pos ⟨rfl, e⟩, if_pos ⟨rfl, e⟩, e]
      exact ⟨rfl, rfl⟩
    · rw [if_neg (fun z => e z.2), if_neg (fun z => e z.2)]
      exact hd p (by omega)
theorem xs_image (h : RX χ s) (hq : ∀ χ', RX χ' (po_image s).2 → Q (po_image s).1 χ') : xxw_image χ Q := by
  have hm' : s.g.1 ≤ 5 := h.1.1
  unfold xxw_image
  rw [show (0 : Int32).toNatClampNeg = 0 from by decide, show (1 : Int32).toNatClampNeg = 1 from by decide]
  refine ⟨ml_in (n := 0) (by decide) (by decide), ?_⟩
  rintro _ rfl
  refine ⟨ml_in (n := 1) (by decide) (by decide), ?_⟩
  rintro _ rfl
  generalize hX : xx_sr (xx_sr χ (26 + 0) (fun q => if q < 4 then xx_g χ 1 q else xx_g χ (26 + 0) q)) (26 + 1) (fun q => if q < 4 then xx_g (xx_sr χ (26 + 0) (fun q => if q < 4 then xx_g χ 1 q else xx_g χ (26 + 0) q)) 2 q else xx_g (xx_sr χ (26 + 0) (fun q => if q < 4 then xx_g χ 1 q else xx_g χ (26 + 0) q)) (26 + 1) q) = X
  have e : ∀ i k, i ≠ 26 → i ≠ 27 → xx_g X i k = xx_g χ i k := fun i k a b => by rw [← hX, xx_gsr, if_neg (show ¬ i = 26 + 1 from b), xx_gsr, if_neg (show ¬ i = 26 + 0 from a)]
  have e26 : ∀ r, r < 4 → xx_g X 26 r = xx_g χ 1 r ∧ xx_g X 27 r = xx_g χ 2 r := fun r hr => by
    rw [← hX]
    refine ⟨?_, ?_⟩
    · rw [xx_gsr, if_neg (by decide), xx_gsr, if_pos rfl, if_pos hr]
    · rw [xx_gsr, if_pos rfl, if_pos hr, xx_gsr, if_neg (by decide)]
  have hXp : X.2 = χ.2 := by rw [← hX]; rfl
  have hRX : ∀ Y : xx_S, (∀ i k, i ≠ 7 → i ≠ 26 → i ≠ 27 → i ≠ 28 → i ≠ 29 → ¬ (i = 0 ∧ k = 35) → xx_g Y i k = xx_g χ i k) → Y.2 = χ.2 → cc_im Y s.g.1 s.t.2.1 (some (s.g.1, s.c, s.g.2.2, s.t.1)) → RX Y (po_image s).2 := by
    intro Y f p him
    obtain ⟨h1, h2, ⟨h3, h4, h5, h6, h7⟩, ⟨h8, h9, h10, h11⟩, h12, h13, h14⟩ := h
    have hp := cc_pool_e p
    refine ⟨cc_C_ints _ h1 p (fun k hk => f 0 k (by decide) (by decide) (by decide) (by decide) (by decide) (fun z => absurd hk (by rw [z.2]; decide))) s.c rfl rfl (fun r hr => ?_), h2, ⟨by rw [f 0 24 (by decide) (by decide) (by decide) (by decide) (by decide) (by decide)]; exact h3, h4, by rw [f 0 13 (by decide) (by decide) (by decide) (by decide) (by decide) (by decide)]; exact h5, h6, fun t ht => cc_text_pool (h7 t ht) hp⟩,
      ⟨by rw [f 0 17 (by decide) (by decide) (by decide) (by decide) (by decide) (by decide)]; exact h8, h9, h10, fun i hi => by rw [f 30 i (by decide) (by decide) (by decide) (by decide) (by decide) (by omega)]; exact h11 i hi⟩, him, fun k hk => cc_sh_of (h13 k hk) hp, fun j k a hj hk => by rw [hp.1]; exact h14 j k a hj hk⟩
    obtain ⟨r1, r2, r3⟩ := h1.2.2.1 r hr
    exact ⟨by rw [f 1 r (by decide) (by decide) (by decide) (by decide) (by decide) (by omega)]; exact r1, by rw [f 2 r (by decide) (by decide) (by decide) (by decide) (by decide) (by omega)]; exact r2, r3⟩
  have hcX : cc_C X s.K s.c := cc_C_ints _ h.1 hXp (fun k hk => e 0 k (by decide) (by decide)) s.c rfl rfl (fun r hr => ⟨by rw [e 1 r (by decide) (by decide)]; exact (h.1.2.2.1 r hr).1, by rw [e 2 r (by decide) (by decide)]; exact (h.1.2.2.1 r hr).2.1, (h.1.2.2.1 r hr).2.2⟩)
  have h24 : xx_g X 0 24 = nI s.t.1 := by rw [e 0 24 (by decide) (by decide)]; exact h.2.2.1.1
  refine ⟨s.g.1 + 1, cs_image_34 hcX h24 (fun χ' f p k28 k70 k71 k72 k35 => hq χ' (hRX χ' (fun i k a b c d g w => (f i k a d g w).trans (e i k b c)) (p.trans hXp) ?_)) s.g.1 0 X (by omega) (fun _ _ _ _ => rfl) rfl (fun p hp => absurd hp (Nat.not_lt_zero _))⟩
  refine ⟨k35, Nat.le_refl _, fun r hr => ?_, fun p hp => ?_, k70, k71, h.2.1, k72, h.2.2.1.2.1⟩
  · obtain ⟨r1, r2, r3⟩ := h.1.2.2.1 r hr
    rw [f 26 r (by decide) (by decide) (by decide) (by omega), f 27 r (by decide) (by decide) (by decide) (by omega), (e26 r hr).1, (e26 r hr).2]
    exact ⟨r1, r2, r3⟩
  · obtain ⟨_, y1, y2, y3⟩ := h.1.2.2.2.1 p hp
    exact ⟨(k28 p hp).1, (k28 p hp).2, y2, y3⟩
/-- back to the image -/
theorem cs_back_74 {m : Nat} {c : pp_C} {num kd num0 ap0 : Nat → Nat} {f : Nat → pp_F} {χ0 : xx_S} (hm5 : m ≤ 5) (hi : ∀ p, p < m → xx_g χ0 28 p = nI (num p) ∧ xx_g χ0 29 p = nI (c.ap p) ∧ num p ≤ 9 ∧ c.ap p ≤ 999)
    (hq : ∀ χ', cc_C χ' (m, kd, cc_apk num num0 m, f) (c.b, c.L, cc_apk c.ap ap0 m, c.nt) → (∀ i k, xx_g χ' i k = xx_g χ0 i k) → cc_pool χ' χ0 → Q (nI m) χ') :
    ∀ (d k : Nat) (χ : xx_S), k + d = m → cc_C χ (m, kd, cc_apk num num0 k, f) (c.b, c.L, cc_apk c.ap ap0 k, c.nt) → (∀ i q, xx_g χ i q = xx_g χ0 i q) → cc_pool χ χ0 → xxw_back_74 Q (d + 1) (nI k) χ := by
  have z0 : (0 : Int32).toNatClampNeg = 0 := by decide
  have z1 : (1 : Int32).toNatClampNeg = 1 := by decide
  intro d
  induction d with
  | zero =>
    intro k χ h1 hC he hp
    obtain rfl : k = m := by omega
    have g1 : xx_g χ 0 1 = nI k := hC.2.1
    unfold xxw_back_74
    rw [g1, nI_leI (by omega) (by omega)]
    exact ⟨fun _ => hq χ hC he hp, fun z => absurd (Nat.le_refl _) z⟩
  | succ d ih =>
    intro k χ h1 hC he hp
    have g1 : xx_g χ 0 1 = nI m := hC.2.1
    obtain ⟨⟨y, y1, y2⟩, y3⟩ := hC.2.2.2.1 k (show k < m by omega)
    obtain ⟨i1, i2, i3, i4⟩ := hi k (by omega)
    unfold xxw_back_74
    rw [g1, nI_leI (by omega) (by omega), z0, z1, ml_cl (by omega), nI_1, show xx_g χ (28 + 0) k = nI (num k) from (he 28 k).trans i1]
    refine ⟨fun z => by omega, fun _ => ⟨ml_in (by omega) (by decide), y, y1, ml_in (n := 0) (by decide) (by decide), ml_in (by omega) (by decide), _, _, _, y2, ?_⟩⟩
    rintro _ rfl
    have hC2 := cc_C_num hC (p := k) (v := num k) (show k < m by omega) y1 y2 i3
    obtain ⟨⟨y', y1', y2'⟩, y3'⟩ := hC2.2.2.2.1 k (show k < m by omega)
    cases y1'.symm.trans y1
    rw [show xx_g (xx_ps χ y (.inr (9 + pp_K.kd (m, kd, cc_apk num num0 k, f) k, [.int (nI (num k)), .int (nI (pp_C.ap (c.b, c.L, cc_apk c.ap ap0 k, c.nt) k))]))) (28 + 1) k = nI (c.ap k) from (he 29 k).trans i2]
    refine ⟨ml_in (by omega) (by decide), y, y1', ml_in (n := 1) (by decide) (by decide), ml_in (by omega) (by decide), _, _, _, y2', ?_⟩
    rintro _ rfl
    have hC3 := cc_C_ap hC2 (p := k) (v := c.ap k) (show k < m by omega) y1' y2' i4
    refine ih (k + 1) _ (by omega) ?_ (fun i q => he i q) (cc_pool_tr (cc_pool_ps y2' ⟨_, y1'⟩) (cc_pool_tr (cc_pool_ps y2 ⟨_, y1⟩) hp))
    rw [← cc_apk_s, ← cc_apk_s]
    exact hC3
theorem cc_C_apk2 {m : Nat} {kd num num0 ap ap0 b L : Nat → Nat} {nt : Nat} {f : Nat → pp_F} (h : cc_C χ (m, kd, cc_apk num num0 m, f) (b, L, cc_apk ap ap0 m, nt)) : cc_C χ (m, kd, num, f) (b, L, ap, nt) := by
  obtain ⟨h1, h2, h3, h4, h5, h6, h7⟩ := h
  refine ⟨h1, h2, h3, fun p hp => ?_, h5, h6, h7⟩
  have := h4 p hp
  rw [show pp_C.ap (b, L, cc_apk ap ap0 m, nt) p = ap p from if_pos hp, show pp_K.num (m, kd, cc_apk num num0 m, f) p = num p from if_pos hp] at this
  exact this
theorem xs_back (h : RX χ s) (hq : ∀ χ', RX χ' (po_back s).2 → Q (po_back s).1 χ') : xxw_back χ Q := by
  have hm5 : s.g.1 ≤ 5 := h.1.1
  have him := h.2.2.2.2.1
  unfold po_back at hq
  unfold xxw_back
  cases e : s.im with
  | none =>
    rw [e] at hq him
    exact ⟨fun _ => hq χ h, fun z => absurd him z⟩
  | some q =>
    obtain ⟨m, c, num, ru⟩ := q
    rw [e] at hq him
    obtain ⟨i1, i2, i3, i4, i5, i6, i7, i8, i9⟩ := him
    refine ⟨fun z => absurd (i1.symm.trans z) (by decide), fun _ => ?_⟩
    rw [show (0 : Int32).toNatClampNeg = 0 from by decide, show (1 : Int32).toNatClampNeg = 1 from by decide, show (2 : Int32).toNatClampNeg = 2 from by decide]
    refine ⟨ml_in (n := 0) (by decide) (by decide), ?_⟩
    rintro _ rfl
    refine ⟨ml_in (n := 1) (by decide) (by decide), ?_⟩
    rintro _ rfl
    refine ⟨ml_in (n := 0) (by decide) (by decide), ?_⟩
    rintro _ rfl
    refine ⟨ml_in (n := 1) (by decide) (by decide), ?_⟩
    rintro _ rfl
    refine ⟨ml_in (n := 2) (by decide) (by decide), ?_⟩
    rintro _ rfl
    generalize hY : xx_sr (xx_sr χ 1 (fun q => if q < 4 then xx_g χ (26 + 0) q else xx_g χ 1 q)) 2 (fun q => if q < 4 then xx_g (xx_sr χ 1 (fun q => if q < 4 then xx_g χ (26 + 0) q else xx_g χ 1 q)) (26 + 1) q else xx_g (xx_sr χ 1 (fun q => if q < 4 then xx_g χ (26 + 0) q else xx_g χ 1 q)) 2 q) = Y
    have eY : ∀ i k, i ≠ 1 → i ≠ 2 → xx_g Y i k = xx_g χ i k := fun i k a b => by rw [← hY, xx_gsr, if_neg b, xx_gsr, if_neg a]
    have rY : ∀ r, r < 4 → xx_g Y 1 r = xx_g χ 26 r ∧ xx_g Y 2 r = xx_g χ 27 r := fun r hr => by
      rw [← hY]
      refine ⟨?_, ?_⟩
      · rw [xx_gsr, if_neg (by decide), xx_gsr, if_pos rfl, if_pos hr]
      · rw [xx_gsr, if_pos rfl, if_pos hr, xx_gsr, if_neg (by decide)]
    have pY : Y.2 = χ.2 := by rw [← hY]; rfl
    rw [xx_ro (show (7 : Nat) ≠ 0 by decide), xx_ro (show (7 : Nat) ≠ 0 by decide), xx_ro (show (7 : Nat) ≠ 0 by decide), eY 7 0 (by decide) (by decide), eY 7 1 (by decide) (by decide), eY 7 2 (by decide) (by decide), i5, i6, i8]
    obtain ⟨⟨c1, c2, c3, c4, c5, c6, c7⟩, h2, ⟨h3, h4, h5, h6, h7⟩, ⟨h8, h9, h10, h11⟩, _, h13, h14⟩ := h
    have hp0 : cc_pool (xx_s (xx_s (xx_s Y 0 1 (nI m)) 0 2 (nI c.nt)) 0 24 (nI ru)) χ := cc_pool_e pY
    have e0 : ∀ i k, i ≠ 1 → i ≠ 2 → ¬ (i = 0 ∧ (k = 1 ∨ k = 2 ∨ k = 24)) → xx_g (xx_s (xx_s (xx_s Y 0 1 (nI m)) 0 2 (nI c.nt)) 0 24 (nI ru)) i k = xx_g χ i k := fun i k a b d => by
      rw [xx_gs, if_neg (by omega), xx_gs, if_neg (by omega), xx_gs, if_neg (by omega)]
      exact eY i k a b
    have hstart : cc_C (xx_s (xx_s (xx_s Y 0 1 (nI m)) 0 2 (nI c.nt)) 0 24 (nI ru)) (m, s.g.2.1, cc_apk num s.g.2.2 0, s.t.2.2 ru) (c.b, c.L, cc_apk c.ap s.c.ap 0, c.nt) := by
      rw [cc_apk_0, cc_apk_0]
      refine ⟨by show m ≤ 5; omega, ?_, fun r hr => ?_, fun p hp => ?_, ?_, ⟨ru, by omega, xx_me, cc_text_pool (h7 ru i9) hp0⟩, ⟨fun a b ha => ?_, fun q z => ?_⟩⟩
      · rw [xx_ot (by decide), xx_ot (by decide), xx_me]
      · obtain ⟨w1, w2, w3⟩ := i3 r hr
        refine ⟨?_, ?_, w3⟩
        · rw [xx_ro (show (1 : Nat) ≠ 0 by decide), xx_ro (show (1 : Nat) ≠ 0 by decide), xx_ro (show (1 : Nat) ≠ 0 by decide), (rY r hr).1]; exact w1
        · rw [xx_ro (show (2 : Nat) ≠ 0 by decide), xx_ro (show (2 : Nat) ≠ 0 by decide), xx_ro (show (2 : Nat) ≠ 0 by decide), (rY r hr).2]; exact w2
      · have hp : p < m := hp
        obtain ⟨⟨y, y1, y2⟩, y3⟩ := c4 p (show p < s.g.1 by omega)
        exact ⟨⟨y, by show Y.2.1 43 p = _; rw [pY]; exact y1, cc_gl_e (x := xx_s (xx_s (xx_s Y 0 1 (nI m)) 0 2 (nI c.nt)) 0 24 (nI ru)) pY y2⟩, y3⟩
      · rw [xx_ot (by decide), xx_me]
      · have ha : a < m := ha
        intro z
        refine c7.1 a b (show a < s.g.1 by omega) ?_
        rw [show xx_r (xx_s (xx_s (xx_s Y 0 1 (nI m)) 0 2 (nI c.nt)) 0 24 (nI ru)) = xx_r χ from show Y.2.1 = χ.2.1 by rw [pY]] at z
        exact z
      · intro hz
        rw [show xx_r (xx_s (xx_s (xx_s Y 0 1 (nI m)) 0 2 (nI c.nt)) 0 24 (nI ru)) = xx_r χ from show Y.2.1 = χ.2.1 by rw [pY]] at hz
        rw [show xx_L (xx_s (xx_s (xx_s Y 0 1 (nI m)) 0 2 (nI c.nt)) 0 24 (nI ru)) = xx_L χ from show Y.2.2.1 = χ.2.2.1 by rw [pY]]
        exact c7.2 q z hz
    refine ⟨m + 1, cs_back_74 (c := c) (num := num) (by omega) (fun p hp => ?_) (fun χ' hC he hp => hq χ' ⟨cc_C_apk2 hC, i7, ⟨?_, i9, ?_, h6, fun t ht => cc_text_pool (h7 t ht) (cc_pool_tr hp hp0)⟩, ⟨?_, h9, h10, fun i hi => ?_⟩, ?_, fun k hk => cc_sh_of (h13 k hk) (cc_pool_tr hp hp0), fun j k a hj hk => ?_⟩) m 0 _ (by omega) hstart (fun _ _ => rfl) cc_pool_rf⟩
    · obtain ⟨w1, w2, w3⟩ := i4 p hp
      exact ⟨by rw [e0 28 p (by decide) (by decide) (by omega)]; exact w1, by rw [e0 29 p (by decide) (by decide) (by omega)]; exact w2, w3⟩
    · rw [he]; exact xx_me
    · rw [he, e0 0 13 (by decide) (by decide) (by decide)]; exact h5
    · rw [he, e0 0 17 (by decide) (by decide) (by decide)]; exact h8
    · rw [he, e0 30 i (by decide) (by decide) (by omega)]; exact h11 i hi
    · show cc_im χ' m s.t.2.1 (some (m, c, num, ru))
      refine cc_im_of (y := χ) ⟨i1, Nat.le_refl _, i3, i4, i5, i6, i7, i8, i9⟩ ?_ (fun i hi k => ?_)
      · rw [he, e0 0 35 (by decide) (by decide) (by decide)]
      · have key : ∀ i, i ∈ [7, 26, 27, 28, 29] → i ≠ 0 ∧ i ≠ 1 ∧ i ≠ 2 := by decide
        obtain ⟨a, b, d⟩ := key i hi
        rw [he, e0 i k b d (fun z => a z.1)]
    · rw [hp.1, hp0.1]
      exact h14 j k a hj hk
end CSH
