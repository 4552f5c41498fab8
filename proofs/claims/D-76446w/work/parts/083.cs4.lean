/-! THE CLASS: the core under gleaning and nights; what is kept beside and laid back; tries -/
section CSE
variable {χ : xx_S} {K : pp_K} {c : pp_C}
def cc_k1 : List Nat := [1, 13, 17, 24, 32, 33, 34, 35]
/-- gleaning and nights -/
def cc_fc (x y : xx_S) : Prop := (∀ i k, (i = 0 → k ∈ cc_k1) → i ∉ [1, 2, 3, 4, 5] → xx_g x i k = xx_g y i k) ∧ cc_pool x y
theorem cc_fc_rf : cc_fc χ χ := ⟨fun _ _ _ _ => rfl, cc_pool_rf⟩
theorem cc_fc_tr {x y z : xx_S} (h1 : cc_fc x y) (h2 : cc_fc y z) : cc_fc x z := ⟨fun i k a b => (h1.1 i k a b).trans (h2.1 i k a b), cc_pool_tr h1.2 h2.2⟩
theorem cc_k1_of : ∀ k, k ∈ cc_k1 → k ∈ cc_k0 := by decide
theorem cc_fc_e {S : List Nat} {x y : xx_S} (h : cc_e S x y) (hs : ∀ i, i ∈ S → i ∈ [1, 2, 3, 4, 5]) : cc_fc x y := ⟨fun i k a b => h.1 i k (fun z => cc_k1_of k (a z)) (fun z => b (hs i z)), cc_pool_e h.2⟩
theorem cc_fc_fg {r p : Nat} {x y : xx_S} (h : cc_fg r p x y) : cc_fc x y := ⟨fun i k a b => h.1 i k (fun z => cc_k1_of k (a z)) (fun z => b ((show ∀ i, i ∈ [3, 4, 5] → i ∈ [1, 2, 3, 4, 5] by decide) i z)) (fun z => b (by rw [z.1]; decide)) (fun z => b (by rw [z.1]; decide)), h.2.1⟩
theorem cc_ok (h : cc_C χ K c) : (∀ r, r < 4 → c.L r ≤ 24 ∧ c.b r < 2 ^ c.L r) ∧ ∀ p, p < K.many → c.ap p ≤ 999 := ⟨fun r hr => (h.2.2.1 r hr).2.2, fun p hp => (h.2.2.2.1 p hp).2.2.2⟩
/-- the core, when the pool is as it was but for aprons -/
theorem cc_C_ap {p y k : Nat} {n a : Int32} {v : Nat} (h : cc_C χ K c) (hp : p < K.many) (hy : xx_r χ 43 p = some y) (hgl : xx_gl χ y k n a) (hv : v ≤ 999) : cc_C (xx_ps χ y (.inr (k, [.int n, .int (nI v)]))) K (c.b, c.L, pp_up c.ap p v, c.nt) := by
  obtain ⟨h1, h2, h3, h4, h5, h6, h7⟩ := h
  refine ⟨h1, h2, h3, fun q hq => ?_, h5, cc_tx_pool h6 (cc_pool_ps hgl ⟨_, hy⟩) rfl, h7⟩
  show cc_fo _ q (K.kd q) (K.num q) (pp_up c.ap p v q)
  obtain ⟨⟨z, z1, z2⟩, z3⟩ := h4 q hq
  unfold pp_up
  by_cases e : q = p
  · subst e
    rw [if_pos rfl]
    cases z1.symm.trans hy
    have e2 := hgl.2.1.symm.trans z2.2.1
    cases e2
    exact cc_fo_ps hy z2 z3.1 z3.2.1 hv
  · rw [if_neg e]
    have hne : z ≠ y := fun w => e (h7.1 q p hq (by rw [z1, hy, w]))
    refine ⟨⟨z, z1, z2.1, ?_, z2.2.2⟩, z3⟩
    rw [xx_fps]
    unfold va_up
    rw [if_neg hne]
    exact z2.2.1
theorem cc_C_ints (x : xx_S) {y : xx_S} (h : cc_C y K c) (hp : x.2 = y.2) (e0 : ∀ k, k ∈ [1, 2, 24] → xx_g x 0 k = xx_g y 0 k) (c' : pp_C) (hap : c'.ap = c.ap) (hnt : c'.nt = c.nt) (hrow : ∀ r, r < 4 → cc_row x r (c'.L r) (c'.b r)) : cc_C x K c' := by
  obtain ⟨h1, h2, h3, h4, h5, h6, h7⟩ := h
  refine ⟨h1, by rw [e0 1 (by decide)]; exact h2, hrow, fun q hq => ?_, by rw [e0 2 (by decide), hnt]; exact h5, cc_tx_pool h6 (cc_pool_e hp) (e0 24 (by decide)), ⟨fun p q a => by rw [show xx_r x = xx_r y from show x.2.1 = y.2.1 by rw [hp]]; exact h7.1 p q a, fun q z => by rw [show xx_r x = xx_r y from show x.2.1 = y.2.1 by rw [hp], show xx_L x = xx_L y from show x.2.2.1 = y.2.2.1 by rw [hp]]; exact h7.2 q z⟩⟩
  rw [hap]
  obtain ⟨⟨z, z1, z2⟩, z3⟩ := h4 q hq
  exact ⟨⟨z, by show x.2.1 43 q = _; rw [hp]; exact z1, cc_gl_e hp z2⟩, z3⟩
theorem cc_C_L {r L' : Nat} (h : cc_C χ K c) (hr : r < 4) (hL : L' ≤ 24) (hle : c.L r ≤ L') : cc_C (xx_s χ 1 r (nI L')) K (c.b, pp_up c.L r L', c.ap, c.nt) := by
  refine cc_C_ints _ h (by rfl) (fun k hk => by rw [xx_ro (show (0 : Nat) ≠ 1 by decide)]) _ rfl rfl (fun q hq => ?_)
  obtain ⟨r1, r2, r3, r4⟩ := h.2.2.1 q hq
  show cc_row _ q (pp_up c.L r L' q) (c.b q)
  unfold pp_up
  by_cases e : q = r
  · rw [if_pos e]
    refine ⟨by rw [xx_gs, if_pos ⟨rfl, e⟩], by rw [xx_ro (show (2 : Nat) ≠ 1 by decide)]; exact r2, hL, ?_⟩
    rw [e] at r4 ⊢
    exact Nat.lt_of_lt_of_le r4 (Nat.pow_le_pow_right (by decide) hle)
  · rw [if_neg e]
    exact ⟨by rw [xx_gs, if_neg (fun z => e z.2)]; exact r1, by rw [xx_ro (show (2 : Nat) ≠ 1 by decide)]; exact r2, r3, r4⟩
theorem cc_C_nt {n : Nat} (h : cc_C χ K c) : cc_C (xx_s χ 0 2 (nI n)) K (c.b, c.L, c.ap, n) := by
  obtain ⟨h1, h2, h3, h4, h5, h6, h7⟩ := h
  refine ⟨h1, by rw [xx_ot (by decide)]; exact h2, fun r hr => ?_, h4, xx_me, cc_tx_pool h6 (cc_pool_e rfl) (xx_ot (by decide)), h7⟩
  obtain ⟨r1, r2, r3⟩ := h3 r hr
  exact ⟨by rw [xx_ro (show (1 : Nat) ≠ 0 by decide)]; exact r1, by rw [xx_ro (show (2 : Nat) ≠ 0 by decide)]; exact r2, r3⟩
theorem cs_gleansC {Q : Int32 → xx_S → Prop} {p r : Nat} (h : cc_C χ K c) (hp : p < K.many) (hr : r < 4) (hq : ∀ χ', cc_C χ' K (pp_gc K c p r) → cc_took χ' (pp_gr K c p r).2 → cc_fc χ' χ → xx_g χ' 0 26 = nI (pp_runs (c.b r) (c.L r)).length → Q (Int32.ofInt (pp_gr K c p r).1.2.2.2) χ') : xxw_gleans (nI p) (nI r) χ Q := by
  have h0 := h
  obtain ⟨h1, h2, h3, h4, h5, h6, h7⟩ := h
  refine cs_gleans (f := K.f) hr (by omega) (h3 r hr) (h4 p hp) h6 (fun χ' g1 g2 g3 g4 g5 => ?_)
  rw [h5] at g1 g2 g3 ⊢
  have hpool := g4.2.1
  refine hq χ' ⟨h1, ?_, fun q hq' => ?_, fun q hq' => ?_, ?_, ?_, ?_⟩ g3 (cc_fc_fg g4) g5
  · rw [g4.1 0 1 (fun _ => by decide) (by decide) (by omega) (by omega)]
    exact h2
  · by_cases e : q = r
    · subst e
      show cc_row χ' q (pp_up c.L q _ q) (pp_up c.b q _ q)
      unfold pp_up
      rw [if_pos rfl, if_pos rfl]
      exact g1
    · show cc_row χ' q (pp_up c.L r _ q) (pp_up c.b r _ q)
      unfold pp_up
      rw [if_neg e, if_neg e]
      obtain ⟨r1, r2, r3⟩ := h3 q hq'
      exact ⟨by rw [g4.1 1 q (fun z => absurd z (by decide)) (by decide) (by omega) (by omega)]; exact r1, by rw [g4.1 2 q (fun z => absurd z (by decide)) (by decide) (by omega) (by omega)]; exact r2, r3⟩
  · by_cases e : q = p
    · subst e
      show cc_fo χ' q _ _ (pp_up c.ap q _ q)
      unfold pp_up
      rw [if_pos rfl]
      exact g2
    · show cc_fo χ' q _ _ (pp_up c.ap p _ q)
      unfold pp_up
      rw [if_neg e]
      obtain ⟨⟨z, z1, z2⟩, z3⟩ := h4 q hq'
      have hne : xx_r χ 43 p ≠ some z := fun w => e (h7.1 q p hq' (by rw [z1, w]))
      refine ⟨⟨z, by rw [hpool.1]; exact z1, by rw [hpool.2.1]; exact z2.1, by rw [g4.2.2 z hne]; exact z2.2.1, z2.2.2⟩, z3⟩
  · rw [g4.1 0 2 (fun _ => by decide) (by decide) (by omega) (by omega)]
    exact h5
  · exact cc_tx_pool h6 hpool (g4.1 0 24 (fun _ => by decide) (by decide) (by omega) (by omega))
  · exact ⟨fun a b ha => by rw [hpool.1]; exact h7.1 a b ha, fun q z => by rw [hpool.1, hpool.2.1]; exact h7.2 q z⟩
/-! a night -/
theorem cs_passes_2 {Q : xx_S → Prop} {χ0 : xx_S} (h0 : cc_C χ0 K c) (hq : ∀ χ', cc_e [5] χ' χ0 → (∀ j, j < K.many → xx_g χ' 5 j = nI (pp_keep K c j)) → ∃ k9, xxw_passes_29 Q k9 0 χ') :
    ∀ (d k : Nat) (χ : xx_S), k + d = K.many → cc_e [5] χ χ0 → (∀ j, j < k → xx_g χ 5 j = nI (pp_keep K c j)) → xxw_passes_2 Q (d + 1) (nI k) χ := by
  intro d
  induction d with
  | zero =>
    intro k χ h1 h2 h3
    have hC := cc_C_e h0 h2 (by decide)
    unfold xxw_passes_2
    rw [hC.2.1, nI_leI (by have := h0.1; omega) (by have := h0.1; omega)]
    exact ⟨fun _ => hq χ h2 (fun j hj => h3 j (by omega)), fun z => absurd (show K.many ≤ k by omega) z⟩
  | succ d ih =>
    intro k χ h1 h2 h3
    have h5 := h0.1
    have hC := cc_C_e h0 h2 (by decide)
    unfold xxw_passes_2
    rw [hC.2.1, nI_leI (by omega) (by omega)]
    refine ⟨fun z => by omega, fun _ => cs_keepsOf hC (by omega) (fun χ' he => ⟨ml_in (by omega) (by decide), ?_⟩)⟩
    rintro _ rfl
    rw [ml_cl (by omega), nI_1]
    refine ih (k + 1) _ (by omega) (cc_e_tr (cc_e_s (by decide)) (cc_e_tr (cc_e_mo he (fun i hi => absurd hi (by simp))) h2)) (fun j hj => ?_)
    rw [xx_gs]
    by_cases e : j = k
    · rw [if_pos ⟨rfl, e⟩, e]
    · rw [if_neg (fun z => e z.2), he.1 5 j (fun z => absurd z (by decide)) (by decide)]
      exact h3 j (by omega)
theorem cs_passes_29 {Q : xx_S → Prop} {χ0 : xx_S} (h0 : cc_C χ0 K c) (hq : ∀ χ', cc_e [5] χ' χ0 → (∀ j, j < 5 → xx_g χ' 5 j = xx_g χ0 5 j) → (∀ j, j < 4 → xx_g χ' 5 (5 + j) = nI (min (pp_shake K c j) (24 - c.L j))) → ∃ k9, xxw_passes_67 Q k9 0 χ') :
    ∀ (d k : Nat) (χ : xx_S), k + d = 4 → cc_e [5] χ χ0 → (∀ j, j < 5 → xx_g χ 5 j = xx_g χ0 5 j) → (∀ j, j < k → xx_g χ 5 (5 + j) = nI (min (pp_shake K c j) (24 - c.L j))) → xxw_passes_29 Q (d + 1) (nI k) χ := by
  intro d
  induction d with
  | zero =>
    intro k χ h1 h2 h3 h4
    unfold xxw_passes_29
    rw [show (4 : Int32) = nI 4 from rfl, nI_leI (by omega) (by omega)]
    exact ⟨fun _ => hq χ h2 h3 (fun j hj => h4 j (by omega)), fun z => absurd (show 4 ≤ k by omega) z⟩
  | succ d ih =>
    intro k χ h1 h2 h3 h4
    have hC := cc_C_e h0 h2 (by decide)
    unfold xxw_passes_29
    rw [show (4 : Int32) = nI 4 from rfl, nI_leI (by omega) (by omega)]
    refine ⟨fun z => by omega, fun _ => cs_shakesOf hC (by omega) (fun χ' he => ⟨ml_in (by omega) (by decide), ?_⟩)⟩
    have hC' := cc_C_e hC he (by decide)
    obtain ⟨r1, r2, r3, r4⟩ := hC'.2.2.1 k (by omega)
    have hsh : pp_shake K c k ≤ 9 := ml_cl_r
    rw [ml_cl (show k < 2 ^ 31 by omega), r1, show (5 : Int32) + nI k = nI (5 + k) from nI_add 5 k, ml_cl (show 5 + k < 2 ^ 31 by omega), show (24 : Int32) - nI (c.L k) = nI (24 - c.L k) from pk_sub (a := 24) r3, nI_1]
    refine ⟨ml_in (by omega) (by decide), ?_⟩
    rintro _ rfl
    have hmin : (if nI (24 - c.L k) < nI (pp_shake K c k) then nI (24 - c.L k) else nI (pp_shake K c k)) = nI (min (pp_shake K c k) (24 - c.L k)) := by
      by_cases e : 24 - c.L k < pp_shake K c k
      · rw [if_pos ((nI_ltI (by omega) (by omega)).mpr e), Nat.min_eq_right (by omega)]
      · rw [if_neg (fun z => e ((nI_ltI (by omega) (by omega)).mp z)), Nat.min_eq_left (by omega)]
    rw [hmin]
    refine ih (k + 1) _ (by omega) (cc_e_tr (cc_e_s (by decide)) (cc_e_tr (cc_e_mo he (fun i hi => absurd hi (by simp))) h2)) (fun j hj => ?_) (fun j hj => ?_)
    · rw [xx_gs, if_neg (by omega), he.1 5 j (fun z => absurd z (by decide)) (by decide)]
      exact h3 j hj
    · rw [xx_gs]
      by_cases e : j = k
      · rw [if_pos ⟨rfl, by omega⟩, e]
      · rw [if_neg (by omega), he.1 5 (5 + j) (fun z => absurd z (by decide)) (by decide)]
        exact h4 j (by omega)
/-- aprons set below k -/
def cc_apk (f g : Nat → Nat) (k : Nat) : Nat → Nat := fun p => if p < k then f p else g p
theorem cc_apk_s {f g : Nat → Nat} {k : Nat} : pp_up (cc_apk f g k) k (f k) = cc_apk f g (k + 1) := by
  funext p
  unfold pp_up cc_apk
  by_cases e : p = k
  · rw [if_pos e, if_pos (by omega), e]
  · rw [if_neg e]
    by_cases e2 : p < k
    · rw [if_pos e2, if_pos (by omega)]
    · rw [if_neg e2, if_neg (by omega)]
theorem cc_apk_0 {f g : Nat → Nat} : cc_apk f g 0 = g := by
  funext p
  unfold cc_apk
  rw [if_neg (by omega)]
theorem cs_passes_67 {Q : xx_S → Prop} {χ0 : xx_S} {f : Nat → Nat} (hf : ∀ j, j < K.many → xx_g χ0 5 j = nI (f j) ∧ f j ≤ 999) (hm : K.many ≤ 5) (hq : ∀ χ', cc_C χ' K (c.b, c.L, cc_apk f c.ap K.many, c.nt) → (∀ i k, xx_g χ' i k = xx_g χ0 i k) → cc_pool χ' χ0 → ∃ k9, xxw_passes_98 Q k9 0 χ') :
    ∀ (d k : Nat) (χ : xx_S), k + d = K.many → cc_C χ K (c.b, c.L, cc_apk f c.ap k, c.nt) → (∀ i k, xx_g χ i k = xx_g χ0 i k) → cc_pool χ χ0 → xxw_passes_67 Q (d + 1) (nI k) χ := by
  intro d
  induction d with
  | zero =>
    intro k χ h1 hC he hp
    obtain rfl : k = K.many := by omega
    unfold xxw_passes_67
    rw [hC.2.1, nI_leI (by omega) (by omega)]
    exact ⟨fun _ => hq χ hC he hp, fun z => absurd (Nat.le_refl _) z⟩
  | succ d ih =>
    intro k χ h1 hC he hp
    obtain ⟨⟨y, y1, y2⟩, y3⟩ := hC.2.2.2.1 k (by omega)
    obtain ⟨f1, f2⟩ := hf k (by omega)
    unfold xxw_passes_67
    rw [hC.2.1, nI_leI (by omega) (by omega), ml_cl (by omega), he 5 k, f1, nI_1]
    refine ⟨fun z => by omega, fun _ => ⟨ml_in (by omega) (by decide), y, y1, ml_in (by omega) (by decide), _, _, _, y2, ?_⟩⟩
    rintro _ rfl
    have := cc_C_ap hC (p := k) (by omega) y1 y2 f2
    refine ih (k + 1) _ (by omega) ?_ he (cc_pool_tr (cc_pool_ps y2 ⟨_, y1⟩) hp)
    rw [← cc_apk_s]
    exact this
theorem cs_passes_98 {Q : xx_S → Prop} {χ0 : xx_S} {f : Nat → Nat} (hf : ∀ r, r < 4 → xx_g χ0 5 (5 + r) = nI (f r) ∧ c.L r + f r ≤ 24) (hq : ∀ χ', cc_C χ' K (c.b, cc_apk (fun r => c.L r + f r) c.L 4, c.ap, c.nt + 1) → (∀ i k, i ≠ 1 → ¬ (i = 0 ∧ k = 2) → xx_g χ' i k = xx_g χ0 i k) → χ'.2 = χ0.2 → Q χ') :
    ∀ (d k : Nat) (χ : xx_S), k + d = 4 → cc_C χ K (c.b, cc_apk (fun r => c.L r + f r) c.L k, c.ap, c.nt) → (∀ i k, i ≠ 1 → xx_g χ i k = xx_g χ0 i k) → χ.2 = χ0.2 → xxw_passes_98 Q (d + 1) (nI k) χ := by
  intro d
  induction d with
  | zero =>
    intro k χ h1 hC he hp
    obtain rfl : k = 4 := by omega
    unfold xxw_passes_98
    refine ⟨fun _ => ?_, fun z => absurd (show (4 : Int32) ≤ nI 4 by decide) z⟩
    rintro _ rfl
    have h2 : xx_g χ 0 2 = nI c.nt := hC.2.2.2.2.1
    rw [h2, nI_1]
    refine hq _ (cc_C_nt hC) (fun i k a b => by rw [xx_gs, if_neg b]; exact he i k a) hp
  | succ d ih =>
    intro k χ h1 hC he hp
    obtain ⟨f1, f2⟩ := hf k (by omega)
    have hk1 : xx_g χ 1 k = nI (c.L k) := by
      have := (hC.2.2.1 k (by omega)).1
      rw [show pp_C.L (c.b, cc_apk (fun r => c.L r + f r) c.L k, c.ap, c.nt) k = c.L k from if_neg (by omega)] at this
      exact this
    unfold xxw_passes_98
    rw [show (4 : Int32) = nI 4 from rfl, nI_leI (by omega) (by omega), ml_cl (show k < 2 ^ 31 by omega), show (5 : Int32) + nI k = nI (5 + k) from nI_add 5 k, ml_cl (show 5 + k < 2 ^ 31 by omega), he 5 (5 + k) (by decide), f1, hk1, nI_add, nI_1]
    refine ⟨fun z => by omega, fun _ => ⟨ml_in (by omega) (by decide), ml_in (by omega) (by decide), ml_in (by omega) (by decide), ?_⟩⟩
    rintro _ rfl
    have := cc_C_L hC (r := k) (L' := c.L k + f k) (by omega) f2 (by rw [show pp_C.L (c.b, cc_apk (fun r => c.L r + f r) c.L k, c.ap, c.nt) k = c.L k from if_neg (by omega)]; omega)
    refine ih (k + 1) _ (by omega) ?_ (fun i q hi => by rw [xx_gs, if_neg (fun z => hi z.1)]; exact he i q hi) hp
    rw [← cc_apk_s]
    exact this
theorem cs_passes {Q : xx_S → Prop} (h : cc_C χ K c) (hq : ∀ χ', cc_C χ' K (pp_pass K c) → cc_fc χ' χ → Q χ') : xxw_passes χ Q := by
  have hm := h.1
  unfold xxw_passes
  refine ⟨K.many + 1, cs_passes_2 h (fun χ1 e1 k1 => ⟨5, cs_passes_29 (cc_C_e h e1 (by decide)) (fun χ2 e2 k2 k3 => ?_) 4 0 χ1 (by decide) cc_e_rf (fun _ _ => rfl) (fun j hj => absurd hj (Nat.not_lt_zero _))⟩) K.many 0 χ (by omega) cc_e_rf (fun j hj => absurd hj (Nat.not_lt_zero _))⟩
  have e20 := cc_e_tr e2 e1
  have hc2 := cc_C_e h e20 (by decide)
  refine ⟨K.many + 1, cs_passes_67 (c := c) (χ0 := χ2) (f := pp_keep K c) (fun j hj => ⟨by rw [k2 j (by omega)]; exact k1 j hj, pp_keep_le ((cc_ok h).2 j hj)⟩) hm (fun χ3 hc3 e3 p3 => ⟨5, ?_⟩) K.many 0 χ2 (by omega) (by rw [cc_apk_0]; exact hc2) (fun _ _ => rfl) cc_pool_rf⟩
  refine cs_passes_98 (c := (c.b, c.L, cc_apk (pp_keep K c) c.ap K.many, c.nt)) (χ0 := χ3) (f := fun r => min (pp_shake K c r) (24 - c.L r)) (fun r hr => ⟨by rw [e3]; exact k3 r hr, by have := ((cc_ok h).1 r hr).1; show c.L r + _ ≤ 24; omega⟩) (fun χ4 hc4 e4 p4 => ?_) 4 0 χ3 (by decide) (by rw [cc_apk_0]; exact hc3) (fun _ _ _ => rfl) rfl
  have hpass : ((c.b, cc_apk (fun r => c.L r + min (pp_shake K c r) (24 - c.L r)) c.L 4, cc_apk (pp_keep K c) c.ap K.many, c.nt + 1) : pp_C) = pp_pass K c := by
    unfold pp_pass
    congr 2
    · funext r
      unfold cc_apk
      by_cases e : r < 4
      · rw [if_pos e, if_pos e]
        have := ((cc_ok h).1 r e).1
        show c.L r + min (pp_shake K c r) (24 - c.L r) = _
        unfold pp_cl
        split
        · omega
        · split <;> omega
      · rw [if_neg e, if_neg e]
  rw [← hpass] at hq
  refine hq χ4 hc4 ⟨fun i k a b => ?_, cc_pool_tr (cc_pool_e p4) (cc_pool_tr p3 (cc_pool_e e20.2))⟩
  rw [e4 i k (fun z => b (by rw [z]; decide)) (fun z => absurd (a z.1) (by rw [z.2]; decide)), e3, e20.1 i k (fun z => cc_k1_of k (a z)) (fun z => b (by simp at z; rw [z]; decide))]
/-! what is kept beside, frame by frame -/
def cc_kept (χ : xx_S) (fr : Nat) (K : pp_K) (c : pp_C) : Prop := (∀ p, p < K.many → xx_g χ (8 + fr) p = nI (c.ap p)) ∧ (∀ r, r < 4 → xx_g χ (14 + fr) r = nI (c.L r) ∧ xx_g χ (20 + fr) r = nI (c.b r)) ∧ xx_g χ 6 fr = nI c.nt
/-- only a frame's cells are others -/
def cc_fk (fr : Nat) (x y : xx_S) : Prop := (∀ i k, i ≠ 8 + fr → i ≠ 14 + fr → i ≠ 20 + fr → ¬ (i = 6 ∧ k = fr) → xx_g x i k = xx_g y i k) ∧ x.2 = y.2
theorem cs_keeps_2 {Q : xx_S → Prop} {fr : Nat} {χ0 : xx_S} (hfr : fr < 6) (h0 : cc_C χ0 K c) (hq : ∀ χ', cc_kept χ' fr K c → cc_fk fr χ' χ0 → Q χ') :
    ∀ (d k : Nat) (χ : xx_S), k + d = K.many → (∀ i q, i ≠ 8 + fr → xx_g χ i q = xx_g χ0 i q) → χ.2 = χ0.2 → (∀ j, j < k → xx_g χ (8 + fr) j = nI (c.ap j)) → xxw_keeps_2 Q (d + 1) (nI fr) (nI k) χ := by
  have hm := h0.1
  intro d
  induction d with
  | zero =>
    intro k χ h1 he hp hk
    unfold xxw_keeps_2
    rw [he 0 1 (by omega), h0.2.1, nI_leI (by omega) (by omega), ml_cl (by omega)]
    refine ⟨fun _ => ⟨ml_in hfr (by decide), ?_⟩, fun z => absurd (show K.many ≤ k by omega) z⟩
    rintro _ rfl
    refine ⟨ml_in hfr (by decide), ?_⟩
    rintro _ rfl
    refine ⟨ml_in hfr (by decide), ?_⟩
    rintro _ rfl
    refine hq _ ⟨fun p hp' => ?_, fun r hr => ⟨?_, ?_⟩, ?_⟩ ⟨fun i q a b d e => ?_, hp⟩
    · rw [xx_gs, if_neg (by omega), xx_gsr, if_neg (by omega), xx_gsr, if_neg (by omega)]
      exact hk p (by omega)
    · rw [xx_gs, if_neg (by omega), xx_gsr, if_neg (by omega), xx_gsr, if_pos rfl, if_pos hr, he 1 r (by omega)]
      exact (h0.2.2.1 r hr).1
    · rw [xx_gs, if_neg (by omega), xx_gsr, if_pos rfl, if_pos hr, xx_gsr, if_neg (by omega), he 2 r (by omega)]
      exact (h0.2.2.1 r hr).2.1
    · rw [xx_gs, if_pos ⟨rfl, rfl⟩, xx_gsr, if_neg (by omega), xx_gsr, if_neg (by omega), he 0 2 (by omega)]
      exact h0.2.2.2.2.1
    · rw [xx_gs, if_neg e, xx_gsr, if_neg d, xx_gsr, if_neg b]
      exact he i q a
  | succ d ih =>
    intro k χ h1 he hp hk
    obtain ⟨⟨y, y1, y2⟩, y3⟩ := h0.2.2.2.1 k (by omega)
    unfold xxw_keeps_2
    rw [he 0 1 (by omega), h0.2.1, nI_leI (by omega) (by omega), ml_cl (show fr < 2 ^ 31 by omega), ml_cl (show k < 2 ^ 31 by omega), nI_1]
    refine ⟨fun z => by omega, fun _ => ⟨ml_in hfr (by decide), ml_in (by omega) (by decide), y, by show χ.2.1 43 k = _; rw [hp]; exact y1, _, _, _, cc_gl_e hp y2, ml_in (by omega) (by decide), ?_⟩⟩
    rintro _ rfl
    refine ih (k + 1) _ (by omega) (fun i q hi => by rw [xx_gs, if_neg (fun z => hi z.1)]; exact he i q hi) hp (fun j hj => ?_)
    rw [xx_gs]
    by_cases e : j = k
    · rw [if_pos ⟨rfl, e⟩, e]
    · rw [if_neg (fun z => e z.2)]
      exact hk j (by omega)
theorem cs_keeps {Q : xx_S → Prop} {fr : Nat} (hfr : fr < 6) (h : cc_C χ K c) (hq : ∀ χ', cc_kept χ' fr K c → cc_fk fr χ' χ → Q χ') : xxw_keeps (nI fr) χ Q :=
  ⟨K.many + 1, cs_keeps_2 hfr h hq K.many 0 χ (by omega) (fun _ _ _ => rfl) rfl (fun j hj => absurd hj (Nat.not_lt_zero _))⟩
theorem cc_C_fk {fr : Nat} {x y : xx_S} (h : cc_C y K c) (e : cc_fk fr x y) (hfr : fr < 6) : cc_C x K c :=
  cc_C_ints x h e.2 (fun k _ => e.1 0 k (by omega) (by omega) (by omega) (by omega)) c rfl rfl (fun r hr => ⟨by rw [e.1 1 r (by omega) (by omega) (by omega) (by omega)]; exact (h.2.2.1 r hr).1, by rw [e.1 2 r (by omega) (by omega) (by omega) (by omega)]; exact (h.2.2.1 r hr).2.1, (h.2.2.1 r hr).2.2⟩)
theorem cs_laysBack_2 {Q : xx_S → Prop} {fr : Nat} {c' : pp_C} {χ0 : xx_S} (hfr : fr < 6) (hm : K.many ≤ 5) (hk : cc_kept χ0 fr K c) (hok : (∀ r, r < 4 → c.L r ≤ 24 ∧ c.b r < 2 ^ c.L r) ∧ ∀ p, p < K.many → c.ap p ≤ 999)
    (hq : ∀ χ', cc_C χ' K (c.b, c.L, cc_apk c.ap c'.ap K.many, c.nt) → (∀ i k, i ≠ 1 → i ≠ 2 → ¬ (i = 0 ∧ k = 2) → xx_g χ' i k = xx_g χ0 i k) → cc_pool χ' χ0 → Q χ') :
    ∀ (d k : Nat) (χ : xx_S), k + d = K.many → cc_C χ K (c'.b, c'.L, cc_apk c.ap c'.ap k, c'.nt) → (∀ i q, xx_g χ i q = xx_g χ0 i q) → cc_pool χ χ0 → xxw_laysBack_2 Q (d + 1) (nI fr) (nI k) χ := by
  intro d
  induction d with
  | zero =>
    intro k χ h1 hC he hp
    obtain rfl : k = K.many := by omega
    unfold xxw_laysBack_2
    rw [hC.2.1, nI_leI (by omega) (by omega), ml_cl (by omega)]
    refine ⟨fun _ => ⟨ml_in hfr (by decide), ?_⟩, fun z => absurd (Nat.le_refl _) z⟩
    rintro _ rfl
    refine ⟨ml_in hfr (by decide), ?_⟩
    rintro _ rfl
    refine ⟨ml_in hfr (by decide), ?_⟩
    rintro _ rfl
    have g6 : xx_g (xx_sr (xx_sr χ 1 (fun q => if q < 4 then xx_g χ (14 + fr) q else xx_g χ 1 q)) 2 (fun q => if q < 4 then xx_g (xx_sr χ 1 (fun q => if q < 4 then xx_g χ (14 + fr) q else xx_g χ 1 q)) (20 + fr) q else xx_g (xx_sr χ 1 (fun q => if q < 4 then xx_g χ (14 + fr) q else xx_g χ 1 q)) 2 q)) 6 fr = nI c.nt := by
      rw [xx_gsr, if_neg (by omega), xx_gsr, if_neg (by omega), he]
      exact hk.2.2
    rw [g6]
    refine hq _ (cc_C_nt (c := (c.b, c.L, cc_apk c.ap c'.ap K.many, c'.nt)) (cc_C_ints _ hC (by rfl) (fun k _ => by rw [xx_gsr, if_neg (by omega), xx_gsr, if_neg (by omega)]) (c.b, c.L, cc_apk c.ap c'.ap K.many, c'.nt) rfl rfl (fun r hr => ⟨?_, ?_, hok.1 r hr⟩))) (fun i k a b e => ?_) hp
    · rw [xx_gsr, if_neg (by omega), xx_gsr, if_pos rfl, if_pos hr, he]
      exact (hk.2.1 r hr).1
    · rw [xx_gsr, if_pos rfl, if_pos hr, xx_gsr, if_neg (by omega), he]
      exact (hk.2.1 r hr).2
    · rw [xx_gs, if_neg e, xx_gsr, if_neg b, xx_gsr, if_neg a]
      exact he i k
  | succ d ih =>
    intro k χ h1 hC he hp
    obtain ⟨⟨y, y1, y2⟩, y3⟩ := hC.2.2.2.1 k (by omega)
    unfold xxw_laysBack_2
    rw [hC.2.1, nI_leI (by omega) (by omega), ml_cl (show fr < 2 ^ 31 by omega), ml_cl (show k < 2 ^ 31 by omega), he (8 + fr) k, hk.1 k (by omega), nI_1]
    refine ⟨fun z => by omega, fun _ => ⟨ml_in (by omega) (by decide), y, y1, ml_in hfr (by decide), ml_in (by omega) (by decide), _, _, _, y2, ?_⟩⟩
    rintro _ rfl
    have := cc_C_ap hC (p := k) (by omega) y1 y2 (hok.2 k (by omega))
    refine ih (k + 1) _ (by omega) ?_ he (cc_pool_tr (cc_pool_ps y2 ⟨_, y1⟩) hp)
    rw [← cc_apk_s]
    exact this
theorem cc_C_apk {f g : Nat → Nat} {b L : Nat → Nat} {nt : Nat} (h : cc_C χ K (b, L, cc_apk f g K.many, nt)) : cc_C χ K (b, L, f, nt) := by
  obtain ⟨h1, h2, h3, h4, h5, h6, h7⟩ := h
  refine ⟨h1, h2, h3, fun p hp => ?_, h5, h6, h7⟩
  have := h4 p hp
  rw [show pp_C.ap (b, L, cc_apk f g K.many, nt) p = f p from if_pos hp] at this
  exact this
theorem cs_laysBack {Q : xx_S → Prop} {fr : Nat} {c' : pp_C} (hfr : fr < 6) (h : cc_C χ K c') (hk : cc_kept χ fr K c) (hok : (∀ r, r < 4 → c.L r ≤ 24 ∧ c.b r < 2 ^ c.L r) ∧ ∀ p, p < K.many → c.ap p ≤ 999)
    (hq : ∀ χ', cc_C χ' K c → (∀ i k, i ≠ 1 → i ≠ 2 → ¬ (i = 0 ∧ k = 2) → xx_g χ' i k = xx_g χ i k) → cc_pool χ' χ → Q χ') : xxw_laysBack (nI fr) χ Q :=
  ⟨K.many + 1, cs_laysBack_2 (c' := c') hfr h.1 hk hok (fun χ' h1 h2 h3 => hq χ' (cc_C_apk h1) h2 h3) K.many 0 χ (by omega) (by rw [cc_apk_0]; exact h) (fun _ _ => rfl) cc_pool_rf⟩
/-- in thought -/
def cc_S0 : List Nat := [1, 2, 3, 4, 5, 6, 8, 9, 10, 11, 12, 13, 14, 15, 16, 17, 18, 19, 20, 21, 22, 23, 24, 25]
def cc_ft (x y : xx_S) : Prop := (∀ i k, (i = 0 → k ∈ cc_k1) → i ∉ cc_S0 → xx_g x i k = xx_g y i k) ∧ cc_pool x y
theorem cc_ft_rf : cc_ft χ χ := ⟨fun _ _ _ _ => rfl, cc_pool_rf⟩
theorem cc_ft_tr {x y z : xx_S} (h1 : cc_ft x y) (h2 : cc_ft y z) : cc_ft x z := ⟨fun i k a b => (h1.1 i k a b).trans (h2.1 i k a b), cc_pool_tr h1.2 h2.2⟩
theorem cc_ft_fc {x y : xx_S} (h : cc_fc x y) : cc_ft x y := ⟨fun i k a b => h.1 i k a (fun z => b ((show ∀ i, i ∈ [1, 2, 3, 4, 5] → i ∈ cc_S0 by decide) i z)), h.2⟩
theorem cc_ft_e {S : List Nat} {x y : xx_S} (h : cc_e S x y) (hs : ∀ i, i ∈ S → i ∈ cc_S0) : cc_ft x y := ⟨fun i k a b => h.1 i k (fun z => cc_k1_of k (a z)) (fun z => b (hs i z)), cc_pool_e h.2⟩
theorem cc_ft_fk {fr : Nat} {x y : xx_S} (h : cc_fk fr x y) (hfr : fr < 6) : cc_ft x y := by
  have key : ∀ f, f < 6 → 8 + f ∈ cc_S0 ∧ 14 + f ∈ cc_S0 ∧ 20 + f ∈ cc_S0 := by decide
  obtain ⟨k1, k2, k3⟩ := key fr hfr
  exact ⟨fun i k _ b => h.1 i k (fun z => b (by rw [z]; exact k1)) (fun z => b (by rw [z]; exact k2)) (fun z => b (by rw [z]; exact k3)) (fun z => b (by rw [z.1]; decide)), cc_pool_e h.2⟩
theorem cc_kept_fc {fr : Nat} {x y : xx_S} (h : cc_kept y fr K c) (e : cc_fc x y) (hfr : fr < 6) : cc_kept x fr K c := by
  have key : ∀ f, f < 6 → (8 + f ∉ [1, 2, 3, 4, 5]) ∧ (14 + f ∉ [1, 2, 3, 4, 5]) ∧ (20 + f ∉ [1, 2, 3, 4, 5]) := by decide
  obtain ⟨k1, k2, k3⟩ := key fr hfr
  exact ⟨fun p hp => by rw [e.1 (8 + fr) p (fun z => by omega) k1]; exact h.1 p hp, fun r hr => ⟨by rw [e.1 (14 + fr) r (fun z => by omega) k2]; exact (h.2.1 r hr).1, by rw [e.1 (20 + fr) r (fun z => by omega) k3]; exact (h.2.1 r hr).2⟩, by rw [e.1 6 fr (fun z => by omega) (by decide)]; exact h.2.2⟩
/-- back from thought -/
theorem cs_back0 {Q : xx_S → Prop} {c' : pp_C} {χ0 χ1 : xx_S} (h0 : cc_C χ0 K c) (k1 : cc_kept χ1 0 K c) (f1 : cc_fk 0 χ1 χ0) (h : cc_C χ K c') (f : cc_fc χ χ1) (hq : ∀ χ', cc_C χ' K c → cc_ft χ' χ0 → (∀ k, xx_g χ' 4 k = xx_g χ 4 k) → xx_g χ' 0 26 = xx_g χ 0 26 → Q χ') : xxw_laysBack 0 χ Q := by
  refine cs_laysBack (fr := 0) (c' := c') (by decide) h (cc_kept_fc k1 f (by decide)) (cc_ok h0) (fun χ' hc e p => hq χ' hc ?_ (fun k => e 4 k (by decide) (by decide) (fun z => absurd z.1 (by decide))) (e 0 26 (by decide) (by decide) (by decide)))
  refine cc_ft_tr ⟨fun i k a b => e i k (fun z => b (by rw [z]; decide)) (fun z => b (by rw [z]; decide)) (fun z => absurd (a z.1) (by rw [z.2]; decide)), p⟩ (cc_ft_tr (cc_ft_fc f) (cc_ft_fk f1 (by decide)))
theorem cs_triesOf {Q : Int32 → xx_S → Prop} {p r : Nat} {w : Int32} (h : cc_C χ K c) (hp : p < K.many) (hr : r < 4) (hq : ∀ χ', cc_C χ' K c → cc_ft χ' χ → cc_took χ' (pp_gr K c p r).2 → xx_g χ' 0 26 = nI (pp_runs (c.b r) (c.L r)).length → Q (pp_try K c p r w) χ') : xxw_triesOf (nI p) (nI r) w χ Q := by
  have hm := h.1
  unfold xxw_triesOf
  refine cs_keeps (fr := 0) (by decide) h (fun χ1 k1 f1 => ?_)
  refine cs_gleansC (cc_C_fk h f1 (by decide)) hp hr (fun χ2 hc2 tk2 f2 g26 => ?_)
  have fin : ∀ (v : Int32) (χ3 : xx_S), v = pp_try K c p r w → cc_e [3] χ3 χ2 → xx_g χ3 0 26 = xx_g χ2 0 26 → xxw_triesOf_57 Q v χ3 := by
    intro v χ3 hv e3 e26
    unfold xxw_triesOf_57
    refine cs_back0 h k1 f1 (cc_C_e hc2 e3 (by decide)) (cc_fc_tr (cc_fc_e e3 (by decide)) f2) (fun χ' hc ft h4 h26 => ?_)
    rw [hv]
    refine hq χ' hc ft (fun j t hj => ?_) (by rw [h26, e26]; exact g26)
    rw [h4 j, e3.1 4 j (fun z => absurd z (by decide)) (by decide)]
    exact tk2 j t hj
  have hrow := hc2.2.2.1 r hr
  rw [show (pp_gc K c p r).L r = (pp_gr K c p r).1.2.1 from pp_up_me, show (pp_gc K c p r).b r = (pp_gr K c p r).1.1 from pp_up_me] at hrow
  have hfo := hc2.2.2.2.1 p hp
  rw [show (pp_gc K c p r).ap p = (pp_gr K c p r).1.2.2.1 from pp_up_me] at hfo
  obtain ⟨⟨y, y1, y2⟩, y3⟩ := hfo
  refine ⟨fun e => fin _ χ2 ?_ cc_e_rf rfl, fun h0 => ⟨fun e => cs_gapsOf hr hrow (fin _ χ2 ?_ cc_e_rf rfl), fun h1 => ⟨fun e => ⟨ml_in (by omega) (by decide), y, ?_, _, _, _, y2, fin _ χ2 ?_ cc_e_rf rfl⟩, fun h2 => cs_greatest hr hrow (fun χ3 e3 => ?_)⟩⟩⟩
  · unfold pp_try; rw [if_pos e]
  · unfold pp_try; rw [if_neg h0, if_pos e]
  · rw [ml_cl (by omega)]; exact y1
  · unfold pp_try; rw [if_neg h0, if_neg h1, if_pos e]
  · refine fin _ χ3 ?_ (cc_e_3 e3) (e3.1 0 26 (by decide))
    unfold pp_try; rw [if_neg h0, if_neg h1, if_neg h2]
end CSE
