/-! THE REFERENCE'S METHODS, the last: a film, a text -/
section NB
variable {σ : gg_S} {s : pp_S} {Q : Int32 → gg_S → Prop}
/-! a text rests on its own bytes alone -/
section LXC
variable {b b' : Nat → Int32} {n : Nat}
theorem pp_at_co (h : ∀ i, i < n → b i = b' i) : pp_at b n = pp_at b' n := by
  funext k
  unfold pp_at
  by_cases e : k < n
  · rw [if_pos e, if_pos e, h k e]
  · rw [if_neg e, if_neg e]
theorem pp_ws_co (h : ∀ i, i < n → b i = b' i) : ∀ f k : Nat, pp_ws b n f k = pp_ws b' n f k := by
  intro f
  induction f with
  | zero => intro k; rfl
  | succ f ih => intro k; unfold pp_ws; rw [pp_at_co h, ih]
theorem pp_sl_co (h : ∀ i, i < n → b i = b' i) : ∀ f k : Nat, pp_sl b n f k = pp_sl b' n f k := by
  intro f
  induction f with
  | zero => intro k; rfl
  | succ f ih => intro k; unfold pp_sl; rw [pp_at_co h, ih]
theorem pp_sd_co (h : ∀ i, i < n → b i = b' i) : ∀ f k : Nat, pp_sd b n f k = pp_sd b' n f k := by
  intro f
  induction f with
  | zero => intro k; rfl
  | succ f ih => intro k; unfold pp_sd; rw [pp_at_co h, ih]
theorem pp_nv_co (h : ∀ i, i < n → b i = b' i) {s : Nat} : ∀ k : Nat, s + k ≤ n → pp_nv b s k = pp_nv b' s k := by
  intro k
  induction k with
  | zero => intro _; rfl
  | succ k ih => intro hk; unfold pp_nv; rw [ih (by omega), h (s + k) (by omega)]
theorem pp_wd_co (h : ∀ i, i < n → b i = b' i) {s e : Nat} (he : e ≤ n) : pp_wd b s e = pp_wd b' s e := by
  have key : ∀ k, pp_is b s e k ↔ pp_is b' s e k := fun k => by
    constructor
    · intro z
      exact ⟨z.1, fun i hi => by rw [← h (s + i) (by omega)]; exact z.2 i hi⟩
    · intro z
      exact ⟨z.1, fun i hi => by rw [h (s + i) (by omega)]; exact z.2 i hi⟩
  have go : ∀ f, pp_id b s e f = pp_id b' s e f := by
    intro f
    induction f with
    | zero => rfl
    | succ f ih =>
      unfold pp_id
      by_cases z : pp_is b s e (11 - f)
      · rw [if_pos z, if_pos ((key _).mp z)]
      · rw [if_neg z, if_neg (fun w => z ((key _).mpr w)), ih]
  exact go 12
theorem pp_lx_co (h : ∀ i, i < n → b i = b' i) : pp_lx b n = pp_lx b' n := by
  funext k
  rw [mp_ls_eq, mp_ls_eq, ← pp_ws_co h]
  generalize pp_ws b n (n + 1) k = s
  unfold mp_ls
  dsimp only
  rw [← pp_at_co h, ← pp_sl_co h, ← pp_sd_co h]
  by_cases h1 : pp_at b n s = -1
  · rw [if_pos h1, if_pos h1]
  · rw [if_neg h1, if_neg h1]
    have hs : s < n := by
      rcases Nat.lt_or_ge s n with q | q
      · exact q
      · exact absurd (pp_at_ge q) h1
    have hl := (pp_sl_ok (b := b) (n := n) (n + 1) s (by omega) (by omega)).2.1
    have hd := pp_sd_ok (b := b) (n := n) (n + 1) s (by omega) (by omega)
    rw [pp_wd_co h hl, pp_nv_co h (s := s) (pp_sd b n (n + 1) s - s) (by omega)]
theorem pp_tx_co (h : ∀ i, i < n → b i = b' i) : pp_tx b n = pp_tx b' n := by
  unfold pp_tx
  rw [pp_lx_co h]
end LXC
/-- a text is as it was, if its cells are -/
theorem ma_text_co {x y : gg_S} {t : Nat} {f : Nat → pp_F} (h : ma_text x t f) (e2 : gg_g y 2 t = gg_g x 2 t) (e1 : ∀ q, q < 160 → gg_g y 1 (160 * t + q) = gg_g x 1 (160 * t + q)) : ma_text y t f := by
  obtain ⟨n, n1, n2, n3, n4⟩ := h
  refine ⟨n, n1, by rw [e2]; exact n2, fun i hi => ?_, ?_⟩
  · show 0 ≤ (gg_g y 1 (160 * t + i)).toInt ∧ (gg_g y 1 (160 * t + i)).toInt ≤ 255
    rw [e1 i (by omega)]
    exact n3 i hi
  · rw [pp_tx_co (b' := fun i => gg_g x 1 (160 * t + i)) (fun i hi => e1 i (by omega))]
    exact n4
def pp_uf (f : Nat → Nat → pp_F) (k : Nat) (g : Nat → pp_F) : Nat → Nat → pp_F := fun j => if j = k then g else f j
def po_text (s : pp_S) : Int32 × pp_S := if s.t.2.1 = 6 then (-4, s) else match pp_tx s.tp.2 s.tp.1 with
  | .inl p => (-100 - nI p, (s.c, s.g, s.t, (0, s.tp.2), s.im, s.sh))
  | .inr f => (nI s.t.2.1, (s.c, s.g, (s.t.1, s.t.2.1 + 1, pp_uf s.t.2.2 s.t.2.1 f), (0, s.tp.2), s.im, s.sh))
theorem RM_text {y : gg_S} {tc : Nat} {tx : Nat → Nat → pp_F} (h : RM σ s) (e0 : ∀ k, k ∈ [4, 7, 12, 40, 41, 42] → gg_g y 0 k = gg_g σ 0 k) (h3 : gg_g y 0 3 = nI tc) (h6 : gg_g y 0 6 = nI 0) (er : ∀ i q, i ≠ 0 → i ≠ 1 → i ≠ 2 → gg_g y i q = gg_g σ i q)
    (htx : ∀ t, t < tc → ma_text y t (tx t)) (hru : tx s.t.1 = s.t.2.2 s.t.1) (hlo : s.t.2.1 ≤ tc) (hhi : tc ≤ 6) : RM y (s.c, s.g, (s.t.1, tc, tx), (0, s.tp.2), s.im, s.sh) := by
  obtain ⟨⟨k1, k2, k3, k4, k5, k6⟩, h2, ⟨h4, h5, h7, h8, h9⟩, _, him, hsh⟩ := h
  have g4 : gg_g y 0 4 = nI s.t.1 := by rw [e0 4 (by decide)]; exact h4
  refine ⟨⟨k1, by rw [e0 12 (by decide)]; exact k2, fun r hr => ?_, fun p hp => ?_, by rw [e0 7 (by decide)]; exact k5, ⟨s.t.1, by omega, g4, htx _ (by omega)⟩⟩, h2, ⟨g4, Nat.lt_of_lt_of_le h5 hlo, h3, hhi, htx⟩, ⟨h6, Nat.zero_le _, fun i hi => absurd hi (Nat.not_lt_zero _), fun i hi => absurd hi (Nat.not_lt_zero _)⟩, ?_, fun k hk => ?_⟩
  · have z := k3 r hr
    unfold ma_row at z ⊢
    rw [er 5 _ (by decide) (by decide) (by decide), er 4 _ (by decide) (by decide) (by decide)]
    exact z
  · have z := k4 p hp
    unfold ma_fo at z ⊢
    rw [er 6 _ (by decide) (by decide) (by decide), er 7 _ (by decide) (by decide) (by decide), er 7 _ (by decide) (by decide) (by decide)]
    exact z
  · have him' : ma_im y s.g.1 s.t.2.1 s.im := ma_im_of him (fun k hk => e0 k ((show ∀ k, k ∈ [40, 41, 42] → k ∈ [4, 7, 12, 40, 41, 42] by decide) k hk)) (fun i hi q => by
      have key : ∀ i, i ∈ [15, 16, 17] → i ≠ 0 ∧ i ≠ 1 ∧ i ≠ 2 := by decide
      obtain ⟨a, b, c⟩ := key i hi
      exact er i q a b c)
    show ma_im y s.g.1 tc s.im
    cases e : s.im with
    | none => rw [e] at him'; exact him'
    | some q =>
      rw [e] at him'
      obtain ⟨m, c, num, ru⟩ := q
      obtain ⟨i1, i2, i3, i4, i5, i6, i7, i8⟩ := him'
      exact ⟨i1, i2, i3, i4, i5, i6, i7, Nat.lt_of_lt_of_le i8 hlo⟩
  · exact ma_sh_of (hsh k hk) (fun i hi => by
      have key : ∀ i, i ∈ [18, 19, 20] → i ≠ 0 ∧ i ≠ 1 ∧ i ≠ 2 := by decide
      obtain ⟨a, b, c⟩ := key i hi
      exact er i k a b c) (fun q _ => er 21 _ (by decide) (by decide) (by decide))
theorem ms_text_14 {tc n : Nat} {σ0 : gg_S} (h3 : gg_g σ0 0 3 = nI tc) (h6 : gg_g σ0 0 6 = nI n) (ht : tc < 6) (hn : n ≤ 160) (hq : ∀ σ', (∀ i q, ¬ (i = 1 ∧ 160 * tc ≤ q ∧ q < 160 * tc + n) → gg_g σ' i q = gg_g σ0 i q) → (∀ j, j < n → gg_g σ' 1 (160 * tc + j) = gg_g σ0 3 j) → mmw_text_14 Q 1 (nI n) σ') :
    ∀ (d k : Nat) (σ : gg_S), k + d = n → (∀ i q, ¬ (i = 1 ∧ 160 * tc ≤ q ∧ q < 160 * tc + n) → gg_g σ i q = gg_g σ0 i q) → (∀ j, j < k → gg_g σ 1 (160 * tc + j) = gg_g σ0 3 j) → mmw_text_14 Q (d + 1) (nI k) σ := by
  intro d
  induction d with
  | zero =>
    intro k σ h1 hf hd
    obtain rfl : k = n := by omega
    exact hq σ hf hd
  | succ d ih =>
    intro k σ h1 hf hd
    unfold mmw_text_14
    rw [hf 0 6 (by omega), hf 0 3 (by omega), h6, h3, nI_leI (by omega) (by omega), show (160 : Int32) * nI tc = nI (160 * tc) from pk_mul 160 tc, nI_add, ml_cl (n := k) (by omega), ml_cl (n := 160 * tc + k) (by omega), nI_1 k]
    refine ⟨fun z => by omega, fun _ => ⟨ml_in (by omega) (by decide), ml_in (by omega) (by decide), ?_⟩⟩
    rintro _ rfl
    refine ih (k + 1) _ (by omega) (fun i q hn => ?_) (fun j hj => ?_)
    · rw [gg_gs, if_neg (fun z => hn ⟨z.1, by omega, by omega⟩)]
      exact hf i q hn
    · rw [gg_gs]
      by_cases e : j = k
      · rw [if_pos ⟨rfl, by omega⟩, e, hf 3 k (by omega)]
      · rw [if_neg (by omega)]
        exact hd j (by omega)
theorem ms_text (h : RM σ s) (hq : ∀ σ', RM σ' (po_text s).2 → Q (po_text s).1 σ') : mmw_text σ Q := by
  have h3 : gg_g σ 0 3 = nI s.t.2.1 := h.2.2.1.2.2.1
  have htc : s.t.2.1 ≤ 6 := h.2.2.1.2.2.2.1
  have hru := h.2.2.1.2.1
  obtain ⟨t1, t2, t3, t4⟩ := h.2.2.2.1
  unfold po_text at hq
  unfold mmw_text
  rw [h3, show (6 : Int32) = nI 6 from rfl, nI_eq (by omega) (by decide)]
  refine ⟨fun e => ?_, fun e => ⟨s.tp.1 + 1, ?_⟩⟩
  · rw [if_pos e] at hq
    exact hq σ h
  · rw [if_neg e] at hq
    refine ms_text_14 (tc := s.t.2.1) (n := s.tp.1) h3 t1 (by omega) t2 (fun σ1 f1 d1 => ?_) s.tp.1 0 σ (by omega) (fun _ _ _ => rfl) (fun j hj => absurd hj (Nat.not_lt_zero _))
    have g3 : gg_g σ1 0 3 = nI s.t.2.1 := by rw [f1 0 3 (by omega)]; exact h3
    have g6 : gg_g σ1 0 6 = nI s.tp.1 := by rw [f1 0 6 (by omega)]; exact t1
    unfold mmw_text_14
    rw [g3, g6]
    refine ⟨fun _ => ⟨ml_in (by omega) (by decide), ?_⟩, fun z => absurd (Int32.le_refl _) z⟩
    rintro _ rfl _ rfl
    rw [gg_ot (by decide), gg_row _ _ _ _ (show (0 : Nat) ≠ 2 by decide), g3, ml_cl (by omega)]
    -- what the parser finds
    have hb : ∀ i, i < s.tp.1 → gg_g (gg_s (gg_s σ1 2 s.t.2.1 (nI s.tp.1)) 0 6 0) 1 (160 * s.t.2.1 + i) = s.tp.2 i := fun i hi => by
      rw [gg_row _ _ _ _ (show (1 : Nat) ≠ 0 by decide), gg_row _ _ _ _ (show (1 : Nat) ≠ 2 by decide), d1 i hi]
      exact t4 i hi
    have hco : pp_tx (fun i => gg_g (gg_s (gg_s σ1 2 s.t.2.1 (nI s.tp.1)) 0 6 0) 1 (160 * s.t.2.1 + i)) s.tp.1 = pp_tx s.tp.2 s.tp.1 := pp_tx_co hb
    refine ms_read (tt := s.t.2.1) (n := s.tp.1) (w := 0) (b := fun i => gg_g (gg_s (gg_s σ1 2 s.t.2.1 (nI s.tp.1)) 0 6 0) 1 (160 * s.t.2.1 + i)) (by decide) (by omega) t2 ?_ (fun i => rfl) (fun i hi => ?_) (fun v σ2 e2 hr => ?_)
    · rw [gg_row _ _ _ _ (show (2 : Nat) ≠ 0 by decide), gg_gs, if_pos ⟨rfl, rfl⟩]
    · show 0 ≤ (gg_g (gg_s (gg_s σ1 2 s.t.2.1 (nI s.tp.1)) 0 6 0) 1 (160 * s.t.2.1 + i)).toInt ∧ (gg_g (gg_s (gg_s σ1 2 s.t.2.1 (nI s.tp.1)) 0 6 0) 1 (160 * s.t.2.1 + i)).toInt ≤ 255
      rw [hb i hi]
      exact t3 i hi
    · rw [hco] at hr
      -- what is as it was
      have e0 : ∀ k, k ∈ [3, 4, 7, 12, 40, 41, 42] → gg_g σ2 0 k = gg_g σ 0 k := fun k hk => by
        have key : ∀ k, k ∈ [3, 4, 7, 12, 40, 41, 42] → k ∉ mp_l2 ∧ k ≠ 6 := by decide
        rw [e2.2 k (key k hk).1, gg_ot (key k hk).2, gg_row _ _ _ _ (show (0 : Nat) ≠ 2 by decide), f1 0 k (by omega)]
      have g62 : gg_g σ2 0 6 = nI 0 := by rw [e2.2 6 (by decide), gg_me]; rfl
      have er : ∀ i q, i ≠ 0 → i ≠ 1 → i ≠ 2 → gg_g σ2 i q = gg_g σ i q := fun i q a b c => by
        rw [e2.1 i q a, gg_row _ _ _ _ a, gg_row _ _ _ _ c, f1 i q (by omega)]
      have old : ∀ t, t < s.t.2.1 → ma_text σ2 t (s.t.2.2 t) := fun t ht => by
        refine ma_text_co (h.2.2.1.2.2.2.2 t ht) ?_ (fun q hq => ?_)
        · rw [e2.1 2 t (by decide), gg_row _ _ _ _ (show (2 : Nat) ≠ 0 by decide), gg_gs, if_neg (by omega), f1 2 t (by omega)]
        · rw [e2.1 1 _ (by decide), gg_row _ _ _ _ (show (1 : Nat) ≠ 0 by decide), gg_row _ _ _ _ (show (1 : Nat) ≠ 2 by decide), f1 1 _ (by omega)]
      cases hp : pp_tx s.tp.2 s.tp.1 with
      | inl p =>
        rw [hp] at hq hr
        obtain ⟨b1, b2⟩ := hr
        rw [b1, b2]
        refine ml_1 (hq σ2 (RM_text h (fun k hk => e0 k ((show ∀ k, k ∈ [4, 7, 12, 40, 41, 42] → k ∈ [3, 4, 7, 12, 40, 41, 42] by decide) k hk)) (by rw [e0 3 (by decide)]; exact h3) g62 er old rfl (Nat.le_refl _) htc))
      | inr f =>
        rw [hp] at hq hr
        obtain ⟨b1, b2⟩ := hr
        rw [b1]
        refine ml_0 ?_
        rintro _ rfl
        rw [gg_me, e0 3 (by decide), h3, nI_1, show (1 : Int32) = nI 1 from rfl, pk_sub (by omega), Nat.add_sub_cancel]
        refine hq _ (RM_text h (fun k hk => ?_) gg_me ?_ (fun i q a b c => ?_) (fun t ht => ?_) ?_ (by omega) (by omega))
        · have key : ∀ k, k ∈ [4, 7, 12, 40, 41, 42] → k ∈ [3, 4, 7, 12, 40, 41, 42] ∧ k ≠ 3 := by decide
          rw [gg_ot (key k hk).2]
          exact e0 k (key k hk).1
        · rw [gg_ot (by decide)]; exact g62
        · rw [gg_row _ _ _ _ a]; exact er i q a b c
        · unfold pp_uf
          by_cases et : t = s.t.2.1
          · rw [if_pos et, et]
            refine ma_text_of (x := σ2) ?_ (by rw [gg_row _ _ _ _ (show (2 : Nat) ≠ 0 by decide)]) (fun q => by rw [gg_row _ _ _ _ (show (1 : Nat) ≠ 0 by decide)])
            have hb2 : ∀ i, i < s.tp.1 → gg_g σ2 1 (160 * s.t.2.1 + i) = s.tp.2 i := fun i hi => by
              rw [e2.1 1 _ (by decide)]
              exact hb i hi
            refine ⟨s.tp.1, t2, ?_, fun i hi => ?_, ?_⟩
            · rw [e2.1 2 _ (by decide), gg_row _ _ _ _ (show (2 : Nat) ≠ 0 by decide), gg_gs, if_pos ⟨rfl, rfl⟩]
            · show 0 ≤ (gg_g σ2 1 (160 * s.t.2.1 + i)).toInt ∧ (gg_g σ2 1 (160 * s.t.2.1 + i)).toInt ≤ 255
              rw [hb2 i hi]
              exact t3 i hi
            · rw [pp_tx_co (b' := s.tp.2) hb2]
              exact hp
          · rw [if_neg et]
            exact ma_text_of (old t (by omega)) (by rw [gg_row _ _ _ _ (show (2 : Nat) ≠ 0 by decide)]) (fun q => by rw [gg_row _ _ _ _ (show (1 : Nat) ≠ 0 by decide)])
        · unfold pp_uf
          rw [if_neg (by omega)]
/-! a film -/
def po_film (s : pp_S) (k one row : Int32) : Int32 × pp_S := match pp_ix k 4 with
  | none => (-2, s)
  | some k => match pp_ix one s.g.1 with
    | none => (-2, s)
    | some p => match pp_ix row 4 with
      | none => (-2, s)
      | some r => (nI (pp_runs (s.c.b r) (s.c.L r)).length, (s.c, s.g, s.t, s.tp, s.im, pp_sup s.sh k (some (0, (pp_runs (s.c.b r) (s.c.L r)).length, fun j => Int32.ofInt ((pp_gr s.K s.c p r).2.getD j 0)))))
theorem ms_film_59 {k n : Nat} {l : Nat → Int32} {σ0 : gg_S} (hk : k < 4) (hn : n ≤ 24) (h10 : ∀ j, j < n → gg_g σ0 10 j = l j) (hq : ∀ σ', (∀ i q, ¬ (i = 21 ∧ 40 * k ≤ q ∧ q < 40 * k + 40) → gg_g σ' i q = gg_g σ0 i q) → (∀ j, j < n → gg_g σ' 21 (40 * k + j) = l j) → Q (nI n) σ') :
    ∀ (d j : Nat) (σ : gg_S), j + d = n → (∀ i q, ¬ (i = 21 ∧ 40 * k ≤ q ∧ q < 40 * k + 40) → gg_g σ i q = gg_g σ0 i q) → (∀ i, i < j → gg_g σ 21 (40 * k + i) = l i) → mmw_film_59 Q (d + 1) (nI k) (nI n) (nI j) σ := by
  intro d
  induction d with
  | zero =>
    intro j σ h1 hf hd
    obtain rfl : j = n := by omega
    unfold mmw_film_59
    rw [nI_leI (by omega) (by omega)]
    exact ⟨fun _ => hq σ hf hd, fun z => absurd (Nat.le_refl _) z⟩
  | succ d ih =>
    intro j σ h1 hf hd
    unfold mmw_film_59
    rw [nI_leI (by omega) (by omega), show (40 : Int32) = nI 40 from rfl, pk_mul, nI_add, ml_cl (n := 40 * k + j) (by omega), ml_cl (n := j) (by omega), hf 10 j (by omega), h10 j (by omega), nI_1]
    refine ⟨fun z => by omega, fun _ => ⟨ml_in (by omega) (by decide), ml_in (by omega) (by decide), ?_⟩⟩
    rintro _ rfl
    refine ih (j + 1) _ (by omega) (fun i q hn => ?_) (fun i hi => ?_)
    · rw [gg_gs, if_neg (fun z => hn ⟨z.1, by omega, by omega⟩)]
      exact hf i q hn
    · rw [gg_gs]
      by_cases e : i = j
      · rw [if_pos ⟨rfl, by omega⟩, e]
      · rw [if_neg (by omega)]
        exact hd i (by omega)
theorem pp_sup_sup {f : Nat → Option (Nat × Nat × (Nat → Int32))} {k : Nat} {a b : Option (Nat × Nat × (Nat → Int32))} : pp_sup (pp_sup f k a) k b = pp_sup f k b := by
  funext j
  unfold pp_sup
  by_cases e : j = k
  · rw [if_pos e, if_pos e]
  · rw [if_neg e, if_neg e, if_neg e]
theorem ms_film {k one row : Int32} (h : RM σ s) (hq : ∀ σ', RM σ' (po_film s k one row).2 → Q (po_film s k one row).1 σ') : mmw_film k one row σ Q := by
  have hm' : s.g.1 ≤ 5 := h.1.1
  unfold po_film at hq
  unfold mmw_film
  refine ms_isSheet (fun k hk e => ml_1 ?_) (fun e => ml_0 ?_)
  · subst e
    rw [pp_ix_some hk (by decide)] at hq
    dsimp only at hq
    refine ms_isOne (n := s.g.1) h.1.2.1 hm' (fun p hp e => ml_1 ?_) (fun e => ml_0 ?_)
    · subst e
      rw [pp_ix_some (n := s.g.1) hp (by omega)] at hq
      dsimp only at hq
      refine ms_isRow (fun r hr e => ml_1 ?_) (fun e => ml_0 ?_)
      · subst e
        rw [pp_ix_some hr (by decide)] at hq
        dsimp only at hq
        have hrow := h.1.2.2.1 r hr
        have hL := hrow.2.2.1
        have hlen : (pp_runs (s.c.b r) (s.c.L r)).length ≤ s.c.L r := pp_rn_len _ _ _ 0 (by omega)
        have hL' : s.c.L r ≤ 24 := hL
        refine ms_runsOf (by omega) hrow (fun σ1 hf hru => ?_)
        have h1 := RM_f89 h hf
        have hps : po_sheet s (nI k) 0 (nI (pp_runs (s.c.b r) (s.c.L r)).length) = (1, (s.c, s.g, s.t, s.tp, s.im, pp_sup s.sh k (some (0, (pp_runs (s.c.b r) (s.c.L r)).length, fun _ => 0)))) := by
          unfold po_sheet
          rw [pp_ix_some hk (by decide), show (0 : Int32) = nI 0 from rfl, pp_ix_some (show 0 < 3 by decide) (by decide), nI_toInt (by omega)]
          dsimp only
          rw [if_neg (by decide), if_neg (by omega), if_neg (by omega), Int.toNat_natCast]
        refine ms_sheet h1 (fun σ2 h2 => ?_)
        rw [hps] at h2
        have h2 : RM σ2 (s.c, s.g, s.t, s.tp, s.im, pp_sup s.sh k (some (0, (pp_runs (s.c.b r) (s.c.L r)).length, fun _ => 0))) := h2
        refine ms_laysAside (fun s3 f3 w3 => ?_)
        have hc3 : ma_C s3 s.K s.c := ma_C_e1 (S := [14]) h2.1 (fun i k _ b => f3 i k (fun z => b (by rw [z]; decide))) (by decide)
        refine ms_gleansC hc3 (show p < s.g.1 from hp) hr (fun σ4 hc4 tk4 f4 => ms_laysBack f3 w3 f4 (fun σ5 ht e => ⟨(pp_runs (s.c.b r) (s.c.L r)).length + 1, ?_⟩))
        have h5 := RM_th h2 ht
        refine ms_film_59 (l := fun j => Int32.ofInt ((pp_gr s.K s.c p r).2.getD j 0)) (σ0 := σ5) hk (by omega) (fun j hj => ?_) (fun σ6 f6 d6 => ?_) _ 0 σ5 (by omega) (fun _ _ _ => rfl) (fun j hj => absurd hj (Nat.not_lt_zero _))
        · rw [e 10 j (fun z => absurd z (by decide)) (by decide)]
          have hlt : j < (pp_gr s.K s.c p r).2.length := by
            unfold pp_gr
            rw [pp_gl_len]
            omega
          refine tk4 j _ ?_
          rw [List.getD_eq_getElem?_getD, List.getElem?_eq_getElem hlt]
          rfl
        · have hsh : ma_sh σ5 k (pp_sup s.sh k (some (0, (pp_runs (s.c.b r) (s.c.L r)).length, fun _ => 0)) k) := h5.2.2.2.2.2 k hk
          rw [show pp_sup s.sh k (some (0, (pp_runs (s.c.b r) (s.c.L r)).length, fun _ => 0)) k = some (0, (pp_runs (s.c.b r) (s.c.L r)).length, fun _ => 0) from if_pos rfl] at hsh
          obtain ⟨a1, a2, a3, a4, a5, a6⟩ := hsh
          have h6 := RM_sh (y := σ6) (k := k) (o := some (0, (pp_runs (s.c.b r) (s.c.L r)).length, fun j => Int32.ofInt ((pp_gr s.K s.c p r).2.getD j 0))) h5 (fun i q a b => f6 i q b) ⟨by rw [f6 18 k (by omega)]; exact a1, by rw [f6 19 k (by omega)]; exact a2, a3, by rw [f6 20 k (by omega)]; exact a4, a5, d6⟩
          have h6 : RM σ6 (s.c, s.g, s.t, s.tp, s.im, pp_sup (pp_sup s.sh k (some (0, (pp_runs (s.c.b r) (s.c.L r)).length, fun _ => 0))) k (some (0, (pp_runs (s.c.b r) (s.c.L r)).length, fun j => Int32.ofInt ((pp_gr s.K s.c p r).2.getD j 0)))) := h6
          rw [pp_sup_sup] at h6
          exact hq σ6 h6
      · rw [pp_ix_none (by decide) e] at hq
        exact hq σ h
    · rw [pp_ix_none (n := s.g.1) (by omega) e] at hq
      exact hq σ h
  · rw [pp_ix_none (by decide) e] at hq
    exact hq σ h
end NB
