/-! THE CLASS'S METHODS, by the same plain words: how its cells stand for the core; the small methods -/
section CSA
variable {χ : xx_S}
abbrev cc_row (χ : xx_S) (r L b : Nat) : Prop := xx_g χ 1 r = nI L ∧ xx_g χ 2 r = nI b ∧ L ≤ 24 ∧ b < 2 ^ L
def cc_fo (χ : xx_S) (p kd num ap : Nat) : Prop := (∃ y, xx_r χ 43 p = some y ∧ xx_gl χ y (9 + kd) (nI num) (nI ap)) ∧ kd ≤ 5 ∧ num ≤ 9 ∧ ap ≤ 999
def cc_text (χ : xx_S) (t : Nat) (f : Nat → pp_F) : Prop := ∃ (a : Nat) (fn : Nat → Option Nat), xx_r χ 44 t = some a ∧ a ∈ xx_L χ ∧ xx_f χ a = .inl (7, xx_q 3 fn) ∧ ∀ k, k < 3 → ∃ y, fn k = some y ∧ xx_nd χ 200 y (f k)
def cc_tx (χ : xx_S) (f : Nat → pp_F) : Prop := ∃ t, t < 6 ∧ xx_g χ 0 24 = nI t ∧ cc_text χ t f
def cc_one (χ : xx_S) (many : Nat) : Prop := (∀ p q, p < many → xx_r χ 43 p = xx_r χ 43 q → p = q) ∧ ∀ q z, xx_r χ 43 q = some z → z ∈ xx_L χ
def cc_C (χ : xx_S) (K : pp_K) (c : pp_C) : Prop :=
  K.many ≤ 5 ∧ xx_g χ 0 1 = nI K.many ∧ (∀ r, r < 4 → cc_row χ r (c.L r) (c.b r)) ∧ (∀ p, p < K.many → cc_fo χ p (K.kd p) (K.num p) (c.ap p)) ∧ xx_g χ 0 2 = nI c.nt ∧ cc_tx χ K.f ∧ cc_one χ K.many
def cc_tag : va_E → Nat
  | .inr q => q.1
  | .inl _ => 0
/-- the pool is as it was but for aprons -/
def cc_pool (χ' χ : xx_S) : Prop := xx_r χ' = xx_r χ ∧ xx_L χ' = xx_L χ ∧ ∀ y, xx_f χ' y = xx_f χ y ∨ ∃ (k : Nat) (n n' a a' : Int32), ((∃ p, xx_r χ 43 p = some y) ∧ 9 ≤ k) ∧ k ≤ 14 ∧ xx_f χ y = .inr (k, [.int n, .int a]) ∧ xx_f χ' y = .inr (k, [.int n', .int a'])
theorem cc_pool_rf : cc_pool χ χ := ⟨rfl, rfl, fun _ => Or.inl rfl⟩
theorem cc_pool_tr {x y z : xx_S} (h1 : cc_pool x y) (h2 : cc_pool y z) : cc_pool x z := by
  refine ⟨h1.1.trans h2.1, h1.2.1.trans h2.2.1, fun q => ?_⟩
  rcases h1.2.2 q with e1 | ⟨k, n, n', a, a', g1, g2, g3, g4⟩
  · rcases h2.2.2 q with e2 | ⟨k, n, n', a, a', g1, g2, g3, g4⟩
    · exact Or.inl (e1.trans e2)
    · exact Or.inr ⟨k, n, n', a, a', g1, g2, g3, e1.trans g4⟩
  · rcases h2.2.2 q with e2 | ⟨k2, n2, n3, b, b', f1, f2, f3, f4⟩
    · exact Or.inr ⟨k, n, n', a, a', ⟨by rw [← h2.1]; exact g1.1, g1.2⟩, g2, e2.symm.trans g3, g4⟩
    · have e := f4.symm.trans g3
      cases e
      exact Or.inr ⟨k, n2, n', b, a', ⟨by rw [← h2.1]; exact g1.1, g1.2⟩, g2, f3, g4⟩
theorem cc_pool_s {i k : Nat} {v : Int32} : cc_pool (xx_s χ i k v) χ := ⟨rfl, rfl, fun _ => Or.inl rfl⟩
theorem cc_pool_sr {i : Nat} {f : Nat → Int32} : cc_pool (xx_sr χ i f) χ := ⟨rfl, rfl, fun _ => Or.inl rfl⟩
theorem cc_pool_ps {y k : Nat} {n n' a a' : Int32} (h : xx_gl χ y k n a) (hy : ∃ p, xx_r χ 43 p = some y) : cc_pool (xx_ps χ y (.inr (k, [.int n', .int a']))) χ := by
  refine ⟨rfl, rfl, fun q => ?_⟩
  rw [xx_fps]
  unfold va_up
  by_cases e : q = y
  · rw [if_pos e, e]
    exact Or.inr ⟨k, n, n', a, a', ⟨hy, h.2.2.1⟩, h.2.2.2, h.2.1, rfl⟩
  · rw [if_neg e]
    exact Or.inl rfl
theorem cc_nd {x y : xx_S} (h : cc_pool y x) : ∀ (d q : Nat) (F : pp_F), xx_nd x d q F → xx_nd y d q F := by
  obtain ⟨h1, h2, h3⟩ := h
  intro d
  induction d with
  | zero => intro q F z; exact z.elim
  | succ d ih =>
    intro q F z
    obtain ⟨z1, z2⟩ := z
    have keep : ∀ e : va_E, xx_f x q = e → (∀ (k : Nat) (n a : Int32), 9 ≤ k → e ≠ .inr (k, [.int n, .int a])) → xx_f y q = e := fun e he hk => by
      rcases h3 q with g | ⟨k, n, n', a, a', g1, g2, g3, g4⟩
      · exact g.trans he
      · exact absurd (he.symm.trans g3) (hk k n a g1.2)
    refine ⟨by rw [h2]; exact z1, ?_⟩
    rcases z2 with ⟨v, e, g⟩ | ⟨w, hw, e, g⟩ | ⟨a, f, e, n, g⟩ | ⟨a, f, e, n, g⟩ | ⟨s, a, b, f, f2, e, n1, n2, g⟩
    · exact Or.inl ⟨v, keep _ e (fun k n a hk he => by cases he), g⟩
    · refine Or.inr (Or.inl ⟨w, hw, ?_, g⟩)
      rw [h1]
      exact keep _ e (fun k n a hk he => by
        have h6 : 6 = k := congrArg cc_tag he
        omega)
    · exact Or.inr (Or.inr (Or.inl ⟨a, f, keep _ e (fun k n a hk he => by cases he), ih a f n, g⟩))
    · exact Or.inr (Or.inr (Or.inr (Or.inl ⟨a, f, keep _ e (fun k n a hk he => by cases he), ih a f n, g⟩)))
    · exact Or.inr (Or.inr (Or.inr (Or.inr ⟨s, a, b, f, f2, keep _ e (fun k n a hk he => by cases he), ih a f n1, ih b f2 n2, g⟩)))
theorem cc_text_pool {x y : xx_S} {t : Nat} {f : Nat → pp_F} (h : cc_text x t f) (e : cc_pool y x) : cc_text y t f := by
  obtain ⟨a, fn, h1, h2, h3, h4⟩ := h
  refine ⟨a, fn, by rw [e.1]; exact h1, by rw [e.2.1]; exact h2, ?_, fun k hk => ?_⟩
  · rcases e.2.2 a with g | ⟨k, n, n', b, b', g1, g2, g3, g4⟩
    · exact g.trans h3
    · rw [h3] at g3; cases g3
  · obtain ⟨y, y1, y2⟩ := h4 k hk
    exact ⟨y, y1, cc_nd e _ _ _ y2⟩
/-- the scalars of the state -/
def cc_k0 : List Nat := [1, 2, 13, 17, 24, 32, 33, 34, 35]
/-- ints as they were but in the cells of S; the pool as it was -/
def cc_e (S : List Nat) (x y : xx_S) : Prop := (∀ i k, (i = 0 → k ∈ cc_k0) → i ∉ S → xx_g x i k = xx_g y i k) ∧ x.2 = y.2
theorem cc_e_rf {S : List Nat} : cc_e S χ χ := ⟨fun _ _ _ _ => rfl, rfl⟩
theorem cc_e_tr {S : List Nat} {x y z : xx_S} (h1 : cc_e S x y) (h2 : cc_e S y z) : cc_e S x z := ⟨fun i k a b => (h1.1 i k a b).trans (h2.1 i k a b), h1.2.trans h2.2⟩
theorem cc_e_mo {S T : List Nat} {x y : xx_S} (h : cc_e S x y) (hs : ∀ i, i ∈ S → i ∈ T) : cc_e T x y := ⟨fun i k a b => h.1 i k a (fun z => b (hs i z)), h.2⟩
theorem cc_e_s {S : List Nat} {i k : Nat} {v : Int32} (h : i ∈ S) : cc_e S (xx_s χ i k v) χ := ⟨fun j q _ b => by rw [xx_gs, if_neg (fun z => b (by rw [z.1]; exact h))], rfl⟩
theorem cc_e_0 {S : List Nat} {k : Nat} {v : Int32} (h : k ∉ cc_k0) : cc_e S (xx_s χ 0 k v) χ := ⟨fun j q a _ => by rw [xx_gs, if_neg (fun z => h (by rw [← z.2]; exact a z.1))], rfl⟩
theorem cc_pool_e {x y : xx_S} (h : x.2 = y.2) : cc_pool x y := ⟨show x.2.1 = y.2.1 by rw [h], show x.2.2.1 = y.2.2.1 by rw [h], fun q => Or.inl (show x.2.2.2 q = y.2.2.2 q by rw [h])⟩
theorem cc_gl_e {x y : xx_S} (h : x.2 = y.2) {q k : Nat} {n a : Int32} (g : xx_gl y q k n a) : xx_gl x q k n a := by
  obtain ⟨g1, g2, g3⟩ := g
  exact ⟨by show q ∈ x.2.2.1; rw [h]; exact g1, by show x.2.2.2 q = _; rw [h]; exact g2, g3⟩
theorem cc_C_e {S : List Nat} {x y : xx_S} {K : pp_K} {c : pp_C} (h : cc_C y K c) (e : cc_e S x y) (hs : ∀ i, i ∈ [0, 1, 2] → i ∉ S) : cc_C x K c := by
  obtain ⟨h1, h2, h3, h4, h5, ⟨t, t1, t2, t3⟩, h6⟩ := h
  have er : xx_r x = xx_r y := show x.2.1 = y.2.1 by rw [e.2]
  refine ⟨h1, by rw [e.1 0 1 (fun _ => by decide) (hs 0 (by decide))]; exact h2, fun r hr => ?_, fun p hp => ?_, by rw [e.1 0 2 (fun _ => by decide) (hs 0 (by decide))]; exact h5, ⟨t, t1, by rw [e.1 0 24 (fun _ => by decide) (hs 0 (by decide))]; exact t2, cc_text_pool t3 (cc_pool_e e.2)⟩, ⟨fun p q a => by rw [er]; exact h6.1 p q a, fun q z => by rw [er, show xx_L x = xx_L y from show x.2.2.1 = y.2.2.1 by rw [e.2]]; exact h6.2 q z⟩⟩
  · obtain ⟨r1, r2, r3⟩ := h3 r hr
    exact ⟨by rw [e.1 1 r (fun z => absurd z (by decide)) (hs 1 (by decide))]; exact r1, by rw [e.1 2 r (fun z => absurd z (by decide)) (hs 2 (by decide))]; exact r2, r3⟩
  · obtain ⟨⟨q, q1, q2⟩, q3⟩ := h4 p hp
    exact ⟨⟨q, by rw [er]; exact q1, cc_gl_e e.2 q2⟩, q3⟩
end CSA
section CSB
variable {χ : xx_S} {Q : Int32 → xx_S → Prop}
theorem cs_inc {x : Int32} {lo hi : Int64} {a z : Int} (ha : lo.toInt = a) (hz : hi.toInt = z) (h1 : a ≤ x.toInt ∧ x.toInt ≤ z → Q 1 χ) (h0 : ¬ (a ≤ x.toInt ∧ x.toInt ≤ z) → Q 0 χ) : xxw_in x.toInt64 lo hi χ Q := by
  unfold xxw_in
  rw [lg_cmp_lt, lg_cmp_gt, Int64.lt_iff_toInt_lt, Int64.lt_iff_toInt_lt, Int32.toInt_toInt64, ha, hz]
  exact ⟨fun h => h0 (by omega), fun h => ⟨fun h' => h0 (by omega), fun h' => h1 (by omega)⟩⟩
theorem cs_lt {x : Int32} {n : Nat} {c : Int64} (hn : n < 2 ^ 31) (hc : c.toInt = (n : Int) - 1) (h1 : ∀ k, k < n → x = nI k → Q 1 χ) (h0 : (∀ k, k < n → x ≠ nI k) → Q 0 χ) : xxw_in x.toInt64 0 c χ Q := by
  refine cs_inc (a := 0) (z := (n : Int) - 1) (by decide) hc (fun h => ?_) (fun h => h0 (fun k hk e => ?_))
  · obtain ⟨k, hk, e⟩ := vp_in_of (x := x) (n := n) (vp_in_iff.mpr ⟨by omega, by omega⟩) hn
    exact h1 k hk e
  · rw [e, nI_toInt (by omega)] at h; omega
theorem cs_isRow {r : Int32} (h1 : ∀ k, k < 4 → r = nI k → Q 1 χ) (h0 : (∀ k, k < 4 → r ≠ nI k) → Q 0 χ) : xxw_isRow r χ Q := cs_lt (n := 4) (by decide) (by decide) h1 h0
theorem cs_isSheet {r : Int32} (h1 : ∀ k, k < 4 → r = nI k → Q 1 χ) (h0 : (∀ k, k < 4 → r ≠ nI k) → Q 0 χ) : xxw_isSheet r χ Q := cs_lt (n := 4) (by decide) (by decide) h1 h0
theorem cs_isOne {x : Int32} {n : Nat} (hm : xx_g χ 0 1 = nI n) (hn : n ≤ 5) (h1 : ∀ k, k < n → x = nI k → Q 1 χ) (h0 : (∀ k, k < n → x ≠ nI k) → Q 0 χ) : xxw_isOne x χ Q := by
  unfold xxw_isOne
  refine cs_lt (n := n) (by omega) ?_ h1 h0
  rw [hm, Int32.toInt_toInt64]
  exact pk_sub_toInt (a := n) (b := 1) (by omega) (by omega)
theorem cs_held {x : Int32} {hi : Nat} (hh : hi < 2 ^ 31) (hq : Q (nI (pp_cl 0 hi x.toInt).toNat) χ) : xxw_held x 0 (nI hi) χ Q := by
  unfold xxw_held
  have h0 : (0 : Int32).toInt = 0 := by decide
  unfold pp_cl at hq
  by_cases h1 : x < nI hi
  · rw [if_pos h1]
    have h1' := h1
    rw [Int32.lt_iff_toInt_lt, nI_toInt hh] at h1'
    by_cases h2 : 0 < x
    · rw [if_pos h2]
      rw [Int32.lt_iff_toInt_lt, h0] at h2
      rw [if_neg (by omega), if_neg (by omega), ← ml_iNat (by omega), Int32.ofInt_toInt] at hq
      exact hq
    · rw [if_neg h2]
      rw [Int32.lt_iff_toInt_lt, h0] at h2
      by_cases h3 : x.toInt < 0
      · rw [if_pos h3] at hq
        exact hq
      · rw [if_neg h3, if_neg (by omega), show x.toInt = 0 by omega] at hq
        exact hq
  · rw [if_neg h1]
    have h1' := h1
    rw [Int32.lt_iff_toInt_lt, nI_toInt hh] at h1'
    rw [if_neg (by omega)] at hq
    have e : (if (hi : Int) < x.toInt then (hi : Int) else x.toInt) = (hi : Int) := by split <;> omega
    rw [e, Int.toNat_natCast] at hq
    by_cases h2 : (0 : Int32) < nI hi
    · rw [if_pos h2]; exact hq
    · rw [if_neg h2]
      rw [Int32.lt_iff_toInt_lt, h0, nI_toInt hh] at h2
      rw [show hi = 0 by omega] at hq
      exact hq
end CSB
