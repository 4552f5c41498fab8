/-! THE CLASS'S METHODS against the abstract state, on: orders -/
section CSI
variable {χ : xx_S} {s : pp_S} {Q : Int32 → xx_S → Prop}
/-! one after the other, in a told order -/
/-- the digits that are gleaners, seen from the right -/
def pp_sn (m : Nat) : Nat → Nat → Nat → Nat
  | 0, _, u => u
  | d + 1, n, u => pp_sn m d (n / 10) (if 1 ≤ n % 10 ∧ n % 10 ≤ m then u ||| 2 ^ (n % 10 - 1) else u)
theorem pp_sn_s (m d n u : Nat) : pp_sn m (d + 1) n u = pp_sn m d (n / 10) (if 1 ≤ n % 10 ∧ n % 10 ≤ m then u ||| 2 ^ (n % 10 - 1) else u) := rfl
theorem co_pc : ∀ m, m < 6 → ∀ u, u < 32 → u < 2 ^ m → (pp_pc 31 u = m ↔ u = 2 ^ m - 1) := by decide +kernel
theorem co_pc1 : ∀ u, u < 32 → ∀ p, p < 5 → pp_pc 31 (u ||| 2 ^ p) ≤ pp_pc 31 u + 1 := by decide +kernel
theorem pp_sn_lt {m : Nat} : ∀ d n u : Nat, u < 2 ^ m → pp_sn m d n u < 2 ^ m := by
  intro d
  induction d with
  | zero => intro n u h; exact h
  | succ d ih =>
    intro n u h
    unfold pp_sn
    refine ih _ _ ?_
    split
    · rename_i hc
      exact Nat.or_lt_two_pow h (Nat.pow_lt_pow_right (by decide) (by omega))
    · exact h
theorem pp_sn_le {m : Nat} (hm : m ≤ 5) : ∀ d n u : Nat, u < 2 ^ m → pp_pc 31 (pp_sn m d n u) ≤ pp_pc 31 u + d := by
  have h32 : (2 : Nat) ^ m ≤ 2 ^ 5 := Nat.pow_le_pow_right (by decide) hm
  intro d
  induction d with
  | zero =>
    intro n u h
    rw [show pp_sn m 0 n u = u from rfl, Nat.add_zero]
    exact Nat.le_refl (pp_pc 31 u)
  | succ d ih =>
    intro n u h
    unfold pp_sn
    split
    · rename_i hc
      have h1 := ih (n / 10) (u ||| 2 ^ (n % 10 - 1)) (Nat.or_lt_two_pow h (Nat.pow_lt_pow_right (by decide) (by omega)))
      have h2 := co_pc1 u (by omega) (n % 10 - 1) (by omega)
      omega
    · have := ih (n / 10) u h
      omega
/-- the two ways to look at an order agree -/
theorem pp_sn_seen {m : Nat} (hm : m ≤ 5) : ∀ d n u : Nat, u < 2 ^ m → (pp_seen m d n u = some (2 ^ m - 1) ↔ n / 10 ^ d = 0 ∧ (∀ j, j < d → 1 ≤ n / 10 ^ j % 10 ∧ n / 10 ^ j % 10 ≤ m) ∧ pp_sn m d n u = 2 ^ m - 1) := by
  intro d
  induction d with
  | zero =>
    intro n u h
    unfold pp_seen pp_sn
    rw [Nat.pow_zero, Nat.div_one]
    constructor
    · intro z
      by_cases e : n = 0
      · rw [if_pos e] at z
        exact ⟨e, fun j hj => absurd hj (Nat.not_lt_zero _), Option.some.inj z⟩
      · rw [if_neg e] at z
        cases z
    · rintro ⟨e, _, e2⟩
      rw [if_pos e, e2]
  | succ d ih =>
    intro n u h
    unfold pp_seen pp_sn
    have hdiv : n / 10 / 10 ^ d = n / 10 ^ (d + 1) := by rw [Nat.div_div_eq_div_mul, Nat.pow_succ, Nat.mul_comm]
    by_cases hc : 1 ≤ n % 10 ∧ n % 10 ≤ m
    · rw [if_pos hc, if_pos hc, ih _ _ (Nat.or_lt_two_pow h (Nat.pow_lt_pow_right (by decide) (by omega))), hdiv]
      constructor
      · rintro ⟨a, b, c⟩
        refine ⟨a, fun j hj => ?_, c⟩
        cases j with
        | zero => rw [Nat.pow_zero, Nat.div_one]; exact hc
        | succ j =>
          have := b j (by omega)
          rw [Nat.div_div_eq_div_mul, Nat.mul_comm, ← Nat.pow_succ] at this
          exact this
      · rintro ⟨a, b, c⟩
        refine ⟨a, fun j hj => ?_, c⟩
        rw [Nat.div_div_eq_div_mul, Nat.mul_comm, ← Nat.pow_succ]
        exact b (j + 1) (by omega)
    · rw [if_neg hc]
      constructor
      · intro z; cases z
      · rintro ⟨_, b, _⟩
        have := b 0 (by omega)
        rw [Nat.pow_zero, Nat.div_one] at this
        exact absurd this hc
/-- all are gleaners, if all have come -/
theorem pp_sn_all {m : Nat} (hm : m ≤ 5) : ∀ d n u : Nat, u < 2 ^ m → pp_pc 31 (pp_sn m d n u) = pp_pc 31 u + d → ∀ j, j < d → 1 ≤ n / 10 ^ j % 10 ∧ n / 10 ^ j % 10 ≤ m := by
  intro d
  induction d with
  | zero => intro n u h _ j hj; omega
  | succ d ih =>
    intro n u h he j hj
    have h32 : (2 : Nat) ^ m ≤ 2 ^ 5 := Nat.pow_le_pow_right (by decide) hm
    unfold pp_sn at he
    by_cases hc : 1 ≤ n % 10 ∧ n % 10 ≤ m
    · rw [if_pos hc] at he
      have hlt := Nat.or_lt_two_pow h (Nat.pow_lt_pow_right (show 1 < 2 by decide) (show n % 10 - 1 < m by omega))
      have h1 := pp_sn_le hm d (n / 10) _ hlt
      have h2 := co_pc1 u (by omega) (n % 10 - 1) (by omega)
      cases j with
      | zero => rw [Nat.pow_zero, Nat.div_one]; exact hc
      | succ j =>
        have := ih (n / 10) _ hlt (by omega) j (by omega)
        rw [Nat.div_div_eq_div_mul, Nat.mul_comm, ← Nat.pow_succ] at this
        exact this
    · rw [if_neg hc] at he
      have h1 := pp_sn_le hm d (n / 10) u h
      omega
theorem pp_okO_iff {m n : Nat} (hm : m ≤ 5) (hn : n < 2 ^ 31) : pp_okO m (nI n) = true ↔ n / 10 ^ m = 0 ∧ pp_pc 31 (pp_sn m m n 0) = m := by
  have h32 : (2 : Nat) ^ m ≤ 2 ^ 5 := Nat.pow_le_pow_right (by decide) hm
  have hp0 := Nat.two_pow_pos m
  unfold pp_okO
  rw [nI_toInt hn, Int.toNat_natCast]
  have hlt := pp_sn_lt (m := m) m n 0 hp0
  have e := co_pc m (by omega) (pp_sn m m n 0) (by omega) hlt
  constructor
  · intro z
    have z2 : pp_seen m m n 0 = some (2 ^ m - 1) := by simpa using z
    obtain ⟨a, b, c⟩ := (pp_sn_seen hm m n 0 hp0).mp z2
    exact ⟨a, e.mpr c⟩
  · rintro ⟨a, b⟩
    have z2 := (pp_sn_seen hm m n 0 hp0).mpr ⟨a, pp_sn_all hm m n 0 hp0 (by rw [b]; show m = 0 + m; omega), e.mp b⟩
    simp [z2]
theorem cs_isOrder_neg {x : Int32} {m : Nat} (hm : m ≤ 5) (h1 : xx_g χ 0 1 = nI m) (hx : x < 0) (hq : Q 0 χ) : ∀ (d k : Nat) (left seen : Int32), k + d = m → xxw_isOrder_7 Q (d + 1) x left seen (nI k) χ := by
  intro d
  induction d with
  | zero =>
    intro k left seen hk
    unfold xxw_isOrder_7
    rw [h1, nI_leI (by omega) (by omega)]
    exact ⟨fun _ => ⟨fun _ => hq, fun z => absurd hx z⟩, fun z => absurd (show m ≤ k by omega) z⟩
  | succ d ih =>
    intro k left seen hk
    unfold xxw_isOrder_7 xxw_isOrder_42
    rw [h1, nI_leI (by omega) (by omega), nI_1]
    refine ⟨fun z => by omega, fun _ => cs_isOne (n := m) h1 hm (fun p hp e => ml_1 (ih (k + 1) _ _ (by omega))) (fun e => ml_0 (ih (k + 1) _ _ (by omega)))⟩
theorem cs_isOrder_pos {n m : Nat} (hm : m ≤ 5) (hn : n < 2 ^ 31) (h1 : xx_g χ 0 1 = nI m) (hq1 : pp_okO m (nI n) = true → Q 1 χ) (hq0 : pp_okO m (nI n) = false → Q 0 χ) :
    ∀ (d k u : Nat), k + d = m → u < 2 ^ m → pp_sn m d (n / 10 ^ k) u = pp_sn m m n 0 → xxw_isOrder_7 Q (d + 1) (nI n) (nI (n / 10 ^ k)) (nI u) (nI k) χ := by
  have h32 : (2 : Nat) ^ m ≤ 2 ^ 5 := Nat.pow_le_pow_right (by decide) hm
  intro d
  induction d with
  | zero =>
    intro k u hk hu hs
    obtain rfl : k = m := by omega
    have hs : u = pp_sn k k n 0 := hs
    have hle : n / 10 ^ k ≤ n := Nat.div_le_self _ _
    have hpc : pp_pc 31 u ≤ 31 := by
      have := pp_sn_le hm k n 0 (Nat.two_pow_pos k)
      rw [← hs] at this
      have h0 : pp_pc 31 0 = 0 := by decide
      omega
    unfold xxw_isOrder_7
    rw [h1, nI_leI (by omega) (by omega), show nI (n / 10 ^ k) = 0 ↔ n / 10 ^ k = 0 from nI_eq (b := 0) (by omega) (by decide)]
    refine ⟨fun _ => ⟨fun z => absurd z (nI_pos hn), fun _ => ⟨fun e => cs_bitCount (by omega) ?_, fun e => ?_⟩⟩, fun z => absurd (Nat.le_refl _) z⟩
    · rw [h1, show nI (pp_pc 31 u) = nI k ↔ pp_pc 31 u = k from nI_eq (by omega) (by omega)]
      refine ⟨fun e2 => hq1 ((pp_okO_iff hm hn).mpr ⟨e, by rw [← hs]; exact e2⟩), fun e2 => hq0 ?_⟩
      cases hh : pp_okO k (nI n) with
      | false => rfl
      | true => exact absurd (by rw [hs]; exact ((pp_okO_iff hm hn).mp hh).2) e2
    · refine hq0 ?_
      cases hh : pp_okO k (nI n) with
      | false => rfl
      | true => exact absurd ((pp_okO_iff hm hn).mp hh).1 e
  | succ d ih =>
    intro k u hk hu hs
    have hle : n / 10 ^ k ≤ n := Nat.div_le_self _ _
    have hdiv : n / 10 ^ k / 10 = n / 10 ^ (k + 1) := by rw [Nat.div_div_eq_div_mul, Nat.pow_succ]
    rw [pp_sn_s, hdiv] at hs
    generalize hN : n / 10 ^ k = N at hle hs hdiv ⊢
    have hmod : N % 10 < 10 := Nat.mod_lt _ (by decide)
    unfold xxw_isOrder_7 xxw_isOrder_42
    rw [h1, nI_leI (by omega) (by omega), ml_rem10 (by omega), ml_div10 (by omega), hdiv, nI_1]
    refine ⟨fun z => by omega, fun _ => cs_isOne (n := m) h1 hm (fun p hp e => ml_1 ?_) (fun e => ml_0 ?_)⟩
    · have hp1 : N % 10 = p + 1 := by
        have h2 : nI (N % 10) = nI (p + 1) := by
          rw [← nI_1, ← e, Int32.sub_add_cancel]
        exact (nI_eq (by omega) (by omega)).mp h2
      rw [if_pos (by omega), show N % 10 - 1 = p by omega] at hs
      rw [e, ml_or1 (by omega)]
      exact ih (k + 1) _ (by omega) (Nat.or_lt_two_pow hu (Nat.pow_lt_pow_right (by decide) hp)) hs
    · rw [if_neg (fun hc => e (N % 10 - 1) (by omega) (by rw [show (1 : Int32) = nI 1 from rfl, pk_sub (by omega)]))] at hs
      rw [show nI u ||| (0 : Int32) = nI u from by rw [show (0 : Int32) = nI 0 from rfl, ml_or, Nat.or_zero]]
      exact ih (k + 1) u (by omega) hu hs
theorem cs_isOrder {x : Int32} {m : Nat} (hm : m ≤ 5) (h1 : xx_g χ 0 1 = nI m) (hq1 : pp_okO m x = true → Q 1 χ) (hq0 : pp_okO m x = false → Q 0 χ) : xxw_isOrder x χ Q := by
  by_cases hx : x < 0
  · have hx' : x.toInt < 0 := by rw [Int32.lt_iff_toInt_lt] at hx; exact hx
    have hok : pp_okO m x = false := by unfold pp_okO; simp; intro h; omega
    exact ⟨m + 1, cs_isOrder_neg hm h1 hx (hq0 hok) m 0 _ _ (by omega)⟩
  · obtain ⟨n, hn, rfl⟩ := nI_of hx
    refine ⟨m + 1, ?_⟩
    have := cs_isOrder_pos hm hn h1 hq1 hq0 m 0 0 (by omega) (Nat.two_pow_pos m) (by rw [Nat.pow_zero, Nat.div_one])
    rw [Nat.pow_zero, Nat.div_one] at this
    exact this
theorem pp_ok_dg {m n : Nat} (hm : m ≤ 5) (hn : n < 2 ^ 31) (h : pp_okO m (nI n) = true) : ∀ j, j < m → 1 ≤ n / 10 ^ j % 10 ∧ n / 10 ^ j % 10 ≤ m := by
  obtain ⟨a, b⟩ := (pp_okO_iff hm hn).mp h
  exact pp_sn_all hm m n 0 (Nat.two_pow_pos m) (by rw [b]; show m = 0 + m; omega)
theorem cs_go_43 {K : pp_K} {r n : Nat} {X : pp_C} {χ0 : xx_S} (hr : r < 4) (hn : n < 2 ^ 31) (hm : K.many ≤ 5) (hd : ∀ j, j < K.many → 1 ≤ n / 10 ^ j % 10 ∧ n / 10 ^ j % 10 ≤ K.many) (hq : ∀ χ', cc_C χ' K X → cc_fc χ' χ0 → Q (pp_left (X.L r) (X.b r)) χ') :
    ∀ (j k : Nat) (c : pp_C) (χ : xx_S), k + j = K.many → cc_C χ K c → cc_fc χ χ0 → pp_it (fun k c => pp_gc K c (pp_dg K.many n k) r) j k c = X → xxw_go_43 Q (j + 1) (nI r) (nI n) (nI (if j = 0 then 0 else 10 ^ (j - 1))) χ := by
  intro j
  induction j with
  | zero =>
    intro k c χ h1 hc hf hX
    have hX : c = X := hX
    subst hX
    unfold xxw_go_43 xxw_go_76
    rw [hc.2.1, show nI K.many ≤ 0 ↔ K.many ≤ 0 from nI_leI (b := 0) (by omega) (by decide)]
    have fin : xxw_gapsOf (nI r) χ (fun r6 σ5 => Q r6 σ5) := cs_gapsOf hr (hc.2.2.1 r hr) (hq χ hc hf)
    exact ⟨fun _ => fin, fun _ => ⟨fun _ => fin, fun z => absurd (by decide) z⟩⟩
  | succ j ih =>
    intro k c χ h1 hc hf hX
    have h10 : (10 : Nat) ^ j ≤ 10 ^ 4 := Nat.pow_le_pow_right (by decide) (by omega)
    have h10p : 0 < 10 ^ j := Nat.pow_pos (by decide)
    have hle : n / 10 ^ j ≤ n := Nat.div_le_self _ _
    obtain ⟨d1, d2⟩ := hd j (by omega)
    have e1 : (if j + 1 = 0 then 0 else 10 ^ (j + 1 - 1)) = 10 ^ j := by rw [if_neg (by omega), Nat.add_sub_cancel]
    have e2 : nI (10 ^ j) / 10 = nI (if j = 0 then 0 else 10 ^ (j - 1)) := by
      rw [ml_div10 (by omega)]
      by_cases e : j = 0
      · subst e; rfl
      · rw [if_neg e, show 10 ^ j = 10 ^ (j - 1) * 10 by rw [← Nat.pow_succ, show (j - 1).succ = j by omega], Nat.mul_div_cancel _ (by decide)]
    unfold xxw_go_43
    rw [hc.2.1, show nI K.many ≤ 0 ↔ K.many ≤ 0 from nI_leI (b := 0) (by omega) (by decide), e1, show nI (10 ^ j) ≤ 0 ↔ 10 ^ j ≤ 0 from nI_leI (b := 0) (by omega) (by decide), e2, pk_div (a := n) (d := 10 ^ j) hn h10p (by omega), ml_rem10 (by omega), show nI (n / 10 ^ j % 10) - 1 = nI (pp_dg K.many n k) from by
      unfold pp_dg
      rw [show K.many - 1 - k = j by omega]
      exact pk_sub (b := 1) d1]
    unfold pp_it at hX
    refine ⟨fun z => by omega, fun _ => ⟨fun z => by omega, fun _ => ⟨nI_ne0 h10p (by omega), cs_gleansC hc (by unfold pp_dg; rw [show K.many - 1 - k = j by omega]; omega) hr (fun χ' hc' _ f' _ => ?_)⟩⟩⟩
    exact ih (k + 1) _ χ' (by omega) hc' (cc_fc_tr f' hf) hX
theorem cs_go_23 {r n m : Nat} (hm : m ≤ 5) (h1 : xx_g χ 0 1 = nI m) (hq : ∃ k9, xxw_go_43 Q k9 (nI r) (nI n) (nI (10 ^ (m - 1))) χ) :
    ∀ (d k : Nat), 1 ≤ k → (k + d = m ∨ (d = 0 ∧ m ≤ k ∧ k = 1)) → xxw_go_23 Q (d + 1) (nI r) (nI n) (nI (10 ^ (k - 1))) (nI k) χ := by
  intro d
  induction d with
  | zero =>
    intro k hk1 hk
    have e : k - 1 = m - 1 := by omega
    unfold xxw_go_23
    rw [h1, nI_leI (by omega) (by omega), e]
    exact ⟨fun _ => hq, fun z => absurd (show m ≤ k by omega) z⟩
  | succ d ih =>
    intro k hk1 hk
    have hk : k + (d + 1) = m := by omega
    unfold xxw_go_23
    rw [h1, nI_leI (by omega) (by omega), nI_1, show nI (10 ^ (k - 1)) * 10 = nI (10 ^ (k + 1 - 1)) from by
      rw [show (10 : Int32) = nI 10 from rfl, pk_mul, ← Nat.pow_succ, show (k - 1).succ = k + 1 - 1 by omega]]
    exact ⟨fun z => by omega, fun _ => ih (k + 1) (by omega) (Or.inl (by omega))⟩
theorem xs_go {row order : Int32} (h : RX χ s) (hq : ∀ χ', RX χ' (po_go s row order).2 → Q (po_go s row order).1 χ') : xxw_go row order χ Q := by
  have hm' : s.g.1 ≤ 5 := h.1.1
  unfold po_go at hq
  unfold xxw_go
  refine cs_isRow (fun r hr e => ml_1 ?_) (fun e => ml_0 ?_)
  · subst e
    rw [pp_ix_some hr (by decide)] at hq
    dsimp only at hq
    refine cs_isOrder (m := s.g.1) hm' h.1.2.1 (fun ok => ml_1 ?_) (fun ok => ml_0 ?_)
    · rw [if_pos ok] at hq
      have hpos : ¬ order < 0 := fun z => by
        rw [Int32.lt_iff_toInt_lt] at z
        unfold pp_okO at ok
        simp at ok
        have := ok.1
        have z : order.toInt < 0 := z
        omega
      obtain ⟨n, hn, rfl⟩ := nI_of hpos
      rw [nI_toInt hn, Int.toNat_natCast] at hq
      have hdg := pp_ok_dg hm' hn ok
      have loop := cs_go_43 (Q := Q) (K := s.K) (n := n) (χ0 := χ) hr hn hm' hdg (fun χ' hc' f' => hq χ' (RX_ft h hc' (by rw [pp_go_nt]; exact h.2.1) (cc_ft_fc f'))) s.g.1 0 s.c χ (by show 0 + s.g.1 = s.g.1; omega) h.1 cc_fc_rf rfl
      refine ⟨(s.g.1 - 1) + 1, cs_go_23 (m := s.g.1) hm' h.1.2.1 ⟨s.g.1 + 1, ?_⟩ (s.g.1 - 1) 1 (Nat.le_refl _) (by omega)⟩
      by_cases e : s.g.1 = 0
      · unfold xxw_go_43 at loop ⊢
        rw [show xx_g χ 0 1 = nI s.g.1 from h.1.2.1, e] at loop ⊢
        exact ⟨fun z => loop.1 z, fun z => absurd (by decide) z⟩
      · rw [if_neg e] at loop
        exact loop
    · rw [if_neg (by rw [ok]; decide)] at hq
      exact hq χ h
  · rw [pp_ix_none (by decide) e] at hq
    exact hq χ h
end CSI
