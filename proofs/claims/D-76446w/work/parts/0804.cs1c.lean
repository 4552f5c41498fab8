section CSBC
variable {χ : xx_S} {Q : Int32 → xx_S → Prop}
theorem cs_gapsOf {r L b : Nat} (hr : r < 4) (h : cc_row χ r L b) (hq : Q (pp_left L b) χ) : xxw_gapsOf (nI r) χ Q := by
  obtain ⟨h1, h2, h3, h4⟩ := h
  have h5 := ml_24 h3 h4
  unfold xxw_gapsOf
  rw [ml_cl (by omega), h1, h2]
  exact ⟨ml_in hr (by decide), ml_in hr (by decide), cs_bitCount h5 hq⟩
theorem cs_isIn {b k : Nat} (hb : b < 2 ^ 31) (hk : k < 31) (h1 : b.testBit k = true → Q 1 χ) (h0 : b.testBit k = false → Q 0 χ) : xxw_isIn (nI b) (nI k) χ Q := by
  unfold xxw_isIn
  rw [ml_bit hb hk]
  cases e : b.testBit k with
  | true => exact ⟨fun _ => h1 e, fun z => absurd rfl z⟩
  | false => exact ⟨fun z => absurd z (by decide), fun _ => h0 e⟩
end CSBC
