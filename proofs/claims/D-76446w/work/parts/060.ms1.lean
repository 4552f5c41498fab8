/-! THE REFERENCE'S SMALL METHODS: what each answers -/
theorem ml_1 {X Y : Prop} (h : Y) : ((1 : Int32) = 0 → X) ∧ (¬ (1 : Int32) = 0 → Y) := ⟨fun z => absurd z (by decide), fun _ => h⟩
theorem ml_0 {X Y : Prop} (h : X) : ((0 : Int32) = 0 → X) ∧ (¬ (0 : Int32) = 0 → Y) := ⟨fun _ => h, fun z => absurd rfl z⟩
theorem ml_in {n N : Nat} (h : n < N) (hN : N < 2 ^ 31) : vp_in (nI n) N := vp_in_nI h hN
theorem ml_cl {n : Nat} (h : n < 2 ^ 31) : (nI n).toNatClampNeg = n := nI_clamp h
section MS
variable {σ : gg_S} {Q : Int32 → gg_S → Prop}
theorem ms_lt {x : Int32} {n : Nat} {c : Int64} (hn : n < 2 ^ 31) (hc : c.toInt = (n : Int) - 1) (h1 : ∀ k, k < n → x = nI k → Q 1 σ) (h0 : (∀ k, k < n → x ≠ nI k) → Q 0 σ) : mmw_in x.toInt64 0 c σ Q := by
  unfold mmw_in
  rw [lg_cmp_lt, lg_cmp_gt, Int64.lt_iff_toInt_lt, Int64.lt_iff_toInt_lt, Int32.toInt_toInt64, hc]
  have hz : (0 : Int64).toInt = 0 := by decide
  rw [hz]
  refine ⟨fun h => h0 (fun k hk e => ?_), fun h => ⟨fun h' => h0 (fun k hk e => ?_), fun h' => ?_⟩⟩
  · rw [e, nI_toInt (by omega)] at h; omega
  · rw [e, nI_toInt (by omega)] at h'; omega
  · obtain ⟨k, hk, e⟩ := vp_in_of (x := x) (n := n) (vp_in_iff.mpr ⟨by omega, by omega⟩) hn
    exact h1 k hk e
theorem ms_isRow {r : Int32} (h1 : ∀ k, k < 4 → r = nI k → Q 1 σ) (h0 : (∀ k, k < 4 → r ≠ nI k) → Q 0 σ) : mmw_isRow r σ Q := ms_lt (n := 4) (by decide) (by decide) h1 h0
theorem ms_isSheet {r : Int32} (h1 : ∀ k, k < 4 → r = nI k → Q 1 σ) (h0 : (∀ k, k < 4 → r ≠ nI k) → Q 0 σ) : mmw_isSheet r σ Q := ms_lt (n := 4) (by decide) (by decide) h1 h0
theorem ms_isOne {x : Int32} {n : Nat} (hm : gg_g σ 0 12 = nI n) (hn : n ≤ 5) (h1 : ∀ k, k < n → x = nI k → Q 1 σ) (h0 : (∀ k, k < n → x ≠ nI k) → Q 0 σ) : mmw_isOne x σ Q := by
  unfold mmw_isOne
  refine ms_lt (n := n) (by omega) ?_ h1 h0
  rw [hm, Int32.toInt_toInt64]
  exact pk_sub_toInt (a := n) (b := 1) (by omega) (by omega)
theorem ml_pc_and (f : Nat) : ∀ b : Nat, b < 2 ^ f → b ≠ 0 → pp_pc f (b &&& (b - 1)) + 1 = pp_pc f b := by
  induction f with
  | zero => intro b h h0; omega
  | succ f ih =>
    intro b h h0
    have hd : (b &&& (b - 1)) / 2 = b / 2 &&& (b - 1) / 2 := Nat.and_div_two
    unfold pp_pc
    rw [hd]
    rcases Nat.mod_two_eq_zero_or_one b with e | e
    · have h1 : (b - 1) / 2 = b / 2 - 1 := by omega
      have h2 : (b &&& (b - 1)) % 2 = 0 := by
        have := Nat.and_mod_two_pow (a := b) (b := b - 1) (n := 1)
        rw [Nat.pow_one] at this
        rw [this, e, Nat.zero_and]
      rw [h1, h2, e]
      have := ih (b / 2) (by omega) (by omega)
      omega
    · have h1 : (b - 1) / 2 = b / 2 := by omega
      have h2 : (b &&& (b - 1)) % 2 = 0 := by
        have := Nat.and_mod_two_pow (a := b) (b := b - 1) (n := 1)
        rw [Nat.pow_one] at this
        rw [this, show (b - 1) % 2 = 0 by omega, Nat.and_zero]
      rw [h1, h2, e, Nat.and_self]
      omega
theorem ml_pc_0 (f : Nat) : ∀ b : Nat, b < 2 ^ f → pp_pc f b = 0 → b = 0 := by
  induction f with
  | zero => intro b h _; omega
  | succ f ih =>
    intro b h h0
    unfold pp_pc at h0
    have := ih (b / 2) (by omega) (by omega)
    omega
theorem ms_bitsOf_4 : ∀ (c acc b : Nat), pp_pc 31 b = c → b < 2 ^ 31 → Q (nI (acc + c)) σ → mmw_bitsOf_4 Q (c + 1) (nI acc) (nI b) σ := by
  intro c
  induction c with
  | zero =>
    intro acc b hc hb hq
    have h0 := ml_pc_0 31 b hb hc
    subst h0
    unfold mmw_bitsOf_4
    exact ⟨fun _ => hq, fun h => absurd nI_0 h⟩
  | succ c ih =>
    intro acc b hc hb hq
    have hb0 : b ≠ 0 := by
      intro h
      subst h
      rw [show pp_pc 31 0 = 0 from by decide] at hc
      omega
    unfold mmw_bitsOf_4
    refine ⟨fun h => absurd h (nI_ne0 (by omega) hb), fun _ => ?_⟩
    rw [show nI b - (1 : Int32) = nI (b - 1) from pk_sub (a := b) (b := 1) (by omega), nx_and, show nI acc + (1 : Int32) = nI (acc + 1) from nI_1 acc]
    have h1 := ml_pc_and 31 b hb hb0
    refine ih (acc + 1) _ (by omega) (Nat.lt_of_le_of_lt Nat.and_le_left hb) ?_
    rw [show acc + 1 + c = acc + (c + 1) by omega]
    exact hq
theorem ms_bitsOf {b : Nat} (hb : b < 2 ^ 31) (hq : Q (nI (pp_pc 31 b)) σ) : mmw_bitsOf (nI b) σ Q :=
  ⟨_, ms_bitsOf_4 _ 0 b rfl hb (by rw [Nat.zero_add]; exact hq)⟩
/-- row r holds L places, stalks b -/
abbrev ma_row (σ : gg_S) (r L b : Nat) : Prop := gg_g σ 5 r = nI L ∧ gg_g σ 4 r = nI b ∧ L ≤ 24 ∧ b < 2 ^ L
theorem ml_24 {L b : Nat} (hL : L ≤ 24) (hb : b < 2 ^ L) : b < 2 ^ 24 := Nat.lt_of_lt_of_le hb (Nat.pow_le_pow_right (by decide) hL)
theorem ms_leftOf {r L b : Nat} (hr : r < 5) (h : ma_row σ r L b) (hq : Q (nI L - nI (pp_pc 31 b)) σ) : mmw_leftOf (nI r) σ Q := by
  obtain ⟨h1, h2, h3, h4⟩ := h
  have h5 := ml_24 h3 h4
  unfold mmw_leftOf
  rw [ml_cl (by omega), h1, h2]
  exact ⟨ml_in hr (by decide), ml_in hr (by decide), ms_bitsOf (by omega) hq⟩
theorem ml_bit {b k : Nat} (hb : b < 2 ^ 31) (hk : k < 31) : ((nI b >>> (nI k &&& 31)) &&& 1) = if b.testBit k then 1 else 0 := by
  rw [pk_shrN hb (nI k &&& 31) k (s_l k (by omega)), show (1 : Int32) = nI 1 from rfl, nx_and, Nat.testBit, Nat.shiftRight_eq_div_pow]
  rw [Nat.one_and_eq_mod_two, Nat.and_one_is_mod]
  rcases Nat.mod_two_eq_zero_or_one (b / 2 ^ k) with e | e
  · rw [e]; rfl
  · rw [e]; rfl
theorem ms_isGap {r L b k : Nat} (hr : r < 5) (hk : k ≤ 24) (h : ma_row σ r L b) (h1 : pp_gap b L k → Q 1 σ) (h0 : ¬ pp_gap b L k → Q 0 σ) : mmw_isGap (nI r) (nI k) σ Q := by
  obtain ⟨e1, e2, e3, e4⟩ := h
  have h5 := ml_24 e3 e4
  unfold mmw_isGap
  rw [ml_cl (by omega), e1, e2]
  refine ⟨ml_in hr (by decide), fun h => h0 (fun g => ?_), fun h => ⟨ml_in hr (by decide), ?_⟩⟩
  · have := (nI_leI (by omega) (by omega)).mp h
    have := g.1
    omega
  · have hkL : k < L := by
      rcases Nat.lt_or_ge k L with q | q
      · exact q
      · exact absurd (nI_le q (by omega)) h
    rw [ml_bit (by omega) (by omega)]
    cases e : b.testBit k with
    | false => exact ⟨fun _ => h1 ⟨hkL, e⟩, fun z => absurd rfl z⟩
    | true => exact ⟨fun z => absurd z (by decide), fun _ => h0 (fun g => by have g2 := g.2; rw [e] at g2; cases g2)⟩
end MS
