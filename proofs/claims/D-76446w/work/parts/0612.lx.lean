/-! THE TEXTS' TOKENS, in plain words: where they begin and end, which words they are -/
abbrev pp_by (b : Nat → Int32) (n : Nat) : Prop := ∀ i, i < n → 0 ≤ (b i).toInt ∧ (b i).toInt ≤ 255
theorem pp_m1 : (-1 : Int32).toInt = -1 := by decide
section LX
variable {b : Nat → Int32} {n : Nat}
theorem pp_at_lt {k : Nat} (h : k < n) : pp_at b n k = b k := if_pos h
theorem pp_at_ge {k : Nat} (h : n ≤ k) : pp_at b n k = -1 := if_neg (by omega)
theorem pp_at_neg (hb : pp_by b n) {k : Nat} : pp_at b n k = -1 ↔ n ≤ k := by
  refine ⟨fun h => ?_, pp_at_ge⟩
  rcases Nat.lt_or_ge k n with hk | hk
  · rw [pp_at_lt hk] at h
    have := (hb k hk).1
    rw [h, pp_m1] at this
    omega
  · exact hk
theorem pp_at_lt0 (hb : pp_by b n) {k : Nat} : (pp_at b n k).toInt < 0 ↔ n ≤ k := by
  rcases Nat.lt_or_ge k n with hk | hk
  · rw [pp_at_lt hk]
    have := (hb k hk).1
    omega
  · rw [pp_at_ge hk, pp_m1]
    omega
theorem pp_ws_ok (f : Nat) : ∀ k, k ≤ n → n < f + k → k ≤ pp_ws b n f k ∧ pp_ws b n f k ≤ n ∧ ¬ (pp_at b n (pp_ws b n f k) = 32 ∨ pp_at b n (pp_ws b n f k) = 10) := by
  induction f with
  | zero => intro k h1 h2; omega
  | succ f ih =>
    intro k h1 h2
    unfold pp_ws
    by_cases h : pp_at b n k = 32 ∨ pp_at b n k = 10
    · rw [if_pos h]
      have hk : k < n := by
        rcases Nat.lt_or_ge k n with hk | hk
        · exact hk
        · rw [pp_at_ge hk] at h
          exact absurd h (by decide)
      have := ih (k + 1) (by omega) (by omega)
      exact ⟨by omega, this.2⟩
    · rw [if_neg h]
      exact ⟨Nat.le_refl _, h1, h⟩
theorem pp_isL_lt {k : Nat} (h : pp_isL (pp_at b n k)) : k < n := by
  rcases Nat.lt_or_ge k n with hk | hk
  · exact hk
  · rw [pp_at_ge hk] at h
    have := h.1
    rw [pp_m1] at this
    omega
theorem pp_isD_lt {k : Nat} (h : pp_isD (pp_at b n k)) : k < n := by
  rcases Nat.lt_or_ge k n with hk | hk
  · exact hk
  · rw [pp_at_ge hk] at h
    have := h.1
    rw [pp_m1] at this
    omega
theorem pp_sl_ok (f : Nat) : ∀ k, k ≤ n → n < f + k → k ≤ pp_sl b n f k ∧ pp_sl b n f k ≤ n ∧ ¬ pp_isL (pp_at b n (pp_sl b n f k)) ∧ ∀ i, k ≤ i → i < pp_sl b n f k → pp_isL (b i) := by
  induction f with
  | zero => intro k h1 h2; omega
  | succ f ih =>
    intro k h1 h2
    unfold pp_sl
    by_cases h : pp_isL (pp_at b n k)
    · rw [if_pos h]
      have hk := pp_isL_lt h
      have := ih (k + 1) (by omega) (by omega)
      refine ⟨by omega, this.2.1, this.2.2.1, fun i h3 h4 => ?_⟩
      rcases Nat.lt_or_ge k i with h5 | h5
      · exact this.2.2.2 i h5 h4
      · rw [show i = k by omega]
        rw [pp_at_lt hk] at h
        exact h
    · rw [if_neg h]
      exact ⟨Nat.le_refl _, h1, h, fun i h3 h4 => by omega⟩
theorem pp_sd_ok (f : Nat) : ∀ k, k ≤ n → n < f + k → k ≤ pp_sd b n f k ∧ pp_sd b n f k ≤ n ∧ ¬ pp_isD (pp_at b n (pp_sd b n f k)) ∧ ∀ i, k ≤ i → i < pp_sd b n f k → pp_isD (b i) := by
  induction f with
  | zero => intro k h1 h2; omega
  | succ f ih =>
    intro k h1 h2
    unfold pp_sd
    by_cases h : pp_isD (pp_at b n k)
    · rw [if_pos h]
      have hk := pp_isD_lt h
      have := ih (k + 1) (by omega) (by omega)
      refine ⟨by omega, this.2.1, this.2.2.1, fun i h3 h4 => ?_⟩
      rcases Nat.lt_or_ge k i with h5 | h5
      · exact this.2.2.2 i h5 h4
      · rw [show i = k by omega]
        rw [pp_at_lt hk] at h
        exact h
    · rw [if_neg h]
      exact ⟨Nat.le_refl _, h1, h, fun i h3 h4 => by omega⟩
/-- a token lies in the text -/
abbrev pp_in (n k : Nat) (t : pp_T) : Prop := k ≤ t.2.2.1 ∧ t.2.2.1 ≤ t.2.2.2 ∧ t.2.2.2 ≤ n ∧ (t.1 = 0 → t.2.2.1 = n) ∧ (t.1 ≠ 0 → t.2.2.1 < t.2.2.2)
theorem pp_lx_in (hb : pp_by b n) {k : Nat} (hk : k ≤ n) : pp_in n k (pp_lx b n k) := by
  unfold pp_lx
  dsimp only
  have h1 := pp_ws_ok (b := b) (n := n) (n + 1) k hk (by omega)
  generalize hs : pp_ws b n (n + 1) k = s at h1
  obtain ⟨h2, h3, h4⟩ := h1
  have h5 := pp_sl_ok (b := b) (n := n) (n + 1) s h3 (by omega)
  have h6 := pp_sd_ok (b := b) (n := n) (n + 1) s h3 (by omega)
  generalize he : pp_sl b n (n + 1) s = e at h5
  generalize hd : pp_sd b n (n + 1) s = d at h6
  by_cases hm : pp_at b n s = -1
  · rw [if_pos hm]
    have := (pp_at_neg hb).mp hm
    exact ⟨h2, Nat.le_refl _, h3, fun _ => by show s = n; omega, fun z => absurd rfl z⟩
  · rw [if_neg hm]
    have hsn : s < n := by
      rcases Nat.lt_or_ge s n with h | h
      · exact h
      · exact absurd (pp_at_ge h) hm
    by_cases hl : pp_isL (pp_at b n s)
    · rw [if_pos hl]
      have hne : s ≠ e := fun z => h5.2.2.1 (z ▸ hl)
      have q : ∀ (a : Nat) (v : Int32), a ≠ 0 → pp_in n k (a, v, s, e) := fun a v ha => ⟨h2, h5.1, h5.2.1, fun z => absurd z ha, fun _ => by show s < e; omega⟩
      split
      · exact q 1 _ (by decide)
      · split
        · exact q 2 _ (by decide)
        · exact q 5 _ (by decide)
    · rw [if_neg hl]
      by_cases hg : pp_isD (pp_at b n s)
      · rw [if_pos hg]
        have hne : s ≠ d := fun z => h6.2.2.1 (z ▸ hg)
        have q : ∀ (a : Nat) (v : Int32), a ≠ 0 → pp_in n k (a, v, s, d) := fun a v ha => ⟨h2, h6.1, h6.2.1, fun z => absurd z ha, fun _ => by show s < d; omega⟩
        split
        · exact q 3 _ (by decide)
        · exact q 5 _ (by decide)
      · rw [if_neg hg]
        have q : ∀ (a : Nat) (v : Int32), a ≠ 0 → pp_in n k (a, v, s, s + 1) := fun a v ha => ⟨h2, by show s ≤ s + 1; omega, by show s + 1 ≤ n; omega, fun z => absurd z ha, fun _ => by show s < s + 1; omega⟩
        split
        · exact q 4 _ (by decide)
        · exact q 5 _ (by decide)
/-! words -/
theorem pp_is_one {s e j k : Nat} (hj : pp_is b s e j) (hk : pp_is b s e k) : pp_w j = pp_w k := by
  apply List.ext_getElem?
  intro i
  rcases Nat.lt_or_ge i (e - s) with h | h
  · rw [hj.2 i h, hk.2 i h]
  · rw [List.getElem?_eq_none (by rw [← hj.1]; exact h), List.getElem?_eq_none (by rw [← hk.1]; exact h)]
theorem pp_w_inj : ∀ j, j < 12 → ∀ k, k < 12 → pp_w j = pp_w k → j = k := by decide
theorem pp_id_is {s e : Nat} (f : Nat) : f ≤ 12 → pp_id b s e f = 12 ∨ (pp_id b s e f < 12 ∧ pp_is b s e (pp_id b s e f)) := by
  induction f with
  | zero => intro _; exact Or.inl rfl
  | succ f ih =>
    intro hf
    unfold pp_id
    by_cases h : pp_is b s e (11 - f)
    · rw [if_pos h]
      exact Or.inr ⟨by omega, h⟩
    · rw [if_neg h]
      exact ih (by omega)
theorem pp_id_no {s e : Nat} (f : Nat) : f ≤ 12 → pp_id b s e f = 12 → ∀ k, 12 - f ≤ k → k < 12 → ¬ pp_is b s e k := by
  induction f with
  | zero => intro _ _ k h1 h2; omega
  | succ f ih =>
    intro hf h k h1 h2
    unfold pp_id at h
    by_cases hi : pp_is b s e (11 - f)
    · rw [if_pos hi] at h
      omega
    · rw [if_neg hi] at h
      rcases Nat.lt_or_ge k (12 - f) with h3 | h3
      · rw [show k = 11 - f by omega]
        exact hi
      · exact ih (by omega) h k h3 h2
theorem pp_wd_iff {s e k : Nat} (hk : k < 12) : pp_wd b s e = k ↔ pp_is b s e k := by
  unfold pp_wd
  constructor
  · intro h
    rcases pp_id_is (b := b) (s := s) (e := e) 12 (Nat.le_refl _) with h1 | h1
    · omega
    · rw [h] at h1
      exact h1.2
  · intro h
    rcases pp_id_is (b := b) (s := s) (e := e) 12 (Nat.le_refl _) with h1 | h1
    · exact absurd h (pp_id_no 12 (Nat.le_refl _) h1 k (by omega) hk)
    · exact pp_w_inj _ h1.1 _ hk (pp_is_one h1.2 h)
theorem pp_wd_le {s e : Nat} : pp_wd b s e ≤ 12 := by
  rcases pp_id_is (b := b) (s := s) (e := e) 12 (Nat.le_refl _) with h1 | h1
  · unfold pp_wd; omega
  · unfold pp_wd; omega
theorem pp_gd {w : List Int32} {i : Nat} (h : w.length ≤ i) : w.getD i 0 = 0 := by
  rw [List.getD_eq_getElem?_getD, List.getElem?_eq_none h]
  rfl
theorem pp_w_len : ∀ k, k < 12 → (pp_w k).length < 8 ∧ ∀ i, i < (pp_w k).length → (pp_w k).getD i 0 ≠ 0 := by decide
/-- the letter at i of the word at hand (0: none there) -/
abbrev pp_lt (b : Nat → Int32) (s e i : Nat) (c : Int32) : Prop := if s + i < e then b (s + i) = c else c = 0
theorem pp_is_lt {s e k : Nat} (hk : k < 12) (hl : ∀ i, s ≤ i → i < e → pp_isL (b i)) : (e ≤ s + 8 ∧ ∀ i, i < 8 → pp_lt b s e i ((pp_w k).getD i 0)) ↔ pp_is b s e k := by
  obtain ⟨w1, w2⟩ := pp_w_len k hk
  have hnz : ∀ i, s ≤ i → i < e → b i ≠ 0 := by
    intro i h1 h2 h3
    have := (hl i h1 h2).1
    rw [h3] at this
    exact absurd this (by decide)
  constructor
  · rintro ⟨h1, h2⟩
    have hlen : e - s = (pp_w k).length := by
      rcases Nat.lt_trichotomy (e - s) (pp_w k).length with h | h | h
      · have := h2 (e - s) (by omega)
        unfold pp_lt at this
        rw [if_neg (by omega)] at this
        exact absurd this (w2 _ h)
      · exact h
      · have := h2 (pp_w k).length (by omega)
        unfold pp_lt at this
        rw [if_pos (by omega), pp_gd (Nat.le_refl _)] at this
        exact absurd this (hnz _ (by omega) (by omega))
    refine ⟨hlen, fun i hi => ?_⟩
    have := h2 i (by omega)
    unfold pp_lt at this
    rw [if_pos (by omega)] at this
    rw [List.getD_eq_getElem?_getD] at this
    rw [this, List.getElem?_eq_getElem (by omega)]
    rfl
  · rintro ⟨h1, h2⟩
    refine ⟨by omega, fun i hi => ?_⟩
    unfold pp_lt
    by_cases h : s + i < e
    · rw [if_pos h, List.getD_eq_getElem?_getD, h2 i (by omega)]
      rfl
    · rw [if_neg h, pp_gd (by omega)]
/-! numbers -/
theorem pp_nv_ok {s e : Nat} (hd : ∀ i, s ≤ i → i < e → pp_isD (b i)) (k : Nat) : s + k ≤ e → 0 ≤ (pp_nv b s k).toInt ∧ (pp_nv b s k).toInt < 10 ^ (min k 4) := by
  induction k with
  | zero =>
    intro _
    unfold pp_nv
    exact ⟨by decide, by decide⟩
  | succ k ih =>
    intro h
    obtain ⟨h1, h2⟩ := ih (by omega)
    unfold pp_nv
    by_cases h4 : k < 4
    · rw [if_pos h4]
      obtain ⟨d1, d2⟩ := hd (s + k) (by omega) (by omega)
      have hp : (10 : Int) ^ (min (k + 1) 4) = 10 * 10 ^ (min k 4) := by
        rw [show min (k + 1) 4 = min k 4 + 1 by omega, Int.pow_succ, Int.mul_comm]
      have hq : (10 : Int) ^ (min k 4) ≤ 1000 := by
        have : min k 4 ≤ 3 := by omega
        rcases (show min k 4 = 0 ∨ min k 4 = 1 ∨ min k 4 = 2 ∨ min k 4 = 3 by omega) with h | h | h | h <;> rw [h] <;> decide
      generalize pp_nv b s k = x at h1 h2
      generalize b (s + k) = y at d1 d2
      rw [hp]
      have e : 10 * x + y - 48 = Int32.ofInt (10 * x.toInt + y.toInt - 48) := by
        rw [Int32.ofInt_sub, Int32.ofInt_add, Int32.ofInt_mul, Int32.ofInt_toInt, Int32.ofInt_toInt]
        rfl
      rw [e, Int32.toInt_ofInt_of_le (by omega) (by omega)]
      omega
    · rw [if_neg h4, show min (k + 1) 4 = min k 4 by omega]
      exact ⟨h1, h2⟩
end LX
