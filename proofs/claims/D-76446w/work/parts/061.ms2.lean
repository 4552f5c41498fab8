/-! THE REFERENCE'S RUNS -/
/-- the two arrays hold the list of runs -/
abbrev ma_runs (σ : gg_S) (l : List (Nat × Nat)) : Prop := ∀ (j : Nat) (q : Nat × Nat), l[j]? = some q → gg_g σ 8 j = nI q.1 ∧ gg_g σ 9 j = nI q.2
abbrev ma_f89 (σ' σ : gg_S) : Prop := ∀ i k, i ≠ 8 → i ≠ 9 → gg_g σ' i k = gg_g σ i k
theorem ma_row_f {σ σ' : gg_S} {r L b : Nat} (h : ma_row σ r L b) (f : ∀ i k, i ≠ 8 → i ≠ 9 → gg_g σ' i k = gg_g σ i k) : ma_row σ' r L b :=
  ⟨by rw [f 5 r (by decide) (by decide)]; exact h.1, by rw [f 4 r (by decide) (by decide)]; exact h.2.1, h.2.2⟩
/-- what is found so far, and what is to come -/
def ma_at (b L k : Nat) (dn all : List (Nat × Nat)) : Prop :=
  ((k = 0 ∨ ¬ pp_gap b L (k - 1)) ∧ all = dn ++ pp_rn b L k) ∨ (k ≠ 0 ∧ pp_gap b L (k - 1) ∧ ∃ d0 s, s < k ∧ dn = d0 ++ [(s, k - s)] ∧ all = d0 ++ (s, k - s + pp_gz b L k) :: pp_rn b L (k + pp_gz b L k))
theorem ma_at_end {b L : Nat} {dn all : List (Nat × Nat)} (h : ma_at b L L dn all) : all = dn := by
  rcases h with ⟨-, h⟩ | ⟨-, -, d0, s, -, h1, h2⟩
  · rw [h, pp_rn_end (Nat.le_refl L), List.append_nil]
  · rw [h2, h1, pp_gz_zero (fun g => by have := g.1; omega), Nat.add_zero, Nat.add_zero, pp_rn_end (Nat.le_refl L)]
theorem ma_at_no {b L k : Nat} {dn all : List (Nat × Nat)} (hk : k < L) (g : ¬ pp_gap b L k) (h : ma_at b L k dn all) : ma_at b L (k + 1) dn all := by
  refine Or.inl ⟨Or.inr (by rw [Nat.add_sub_cancel]; exact g), ?_⟩
  rcases h with ⟨-, h⟩ | ⟨-, -, d0, s, -, h1, h2⟩
  · rw [h, pp_rn_no hk g]
  · rw [h2, h1, pp_gz_zero g, Nat.add_zero, Nat.add_zero, pp_rn_no hk g]
    simp
theorem ma_at_new {b L k : Nat} {dn all : List (Nat × Nat)} (g : pp_gap b L k) (hf : k = 0 ∨ ¬ pp_gap b L (k - 1)) (h : ma_at b L k dn all) : ma_at b L (k + 1) (dn ++ [(k, 1)]) all := by
  refine Or.inr ⟨by omega, by rw [Nat.add_sub_cancel]; exact g, dn, k, by omega, by rw [Nat.add_sub_cancel_left], ?_⟩
  rcases h with ⟨-, h⟩ | ⟨h0, h1, -⟩
  · rw [h, pp_rn_gap g, pp_gz_pos g, Nat.add_sub_cancel_left, Nat.add_comm (pp_gz b L (k + 1)) 1, Nat.add_assoc]
  · rcases hf with e | e
    · exact absurd e h0
    · exact absurd h1 e
theorem ma_at_more {b L k : Nat} {dn all : List (Nat × Nat)} (g : pp_gap b L k) (h0 : k ≠ 0) (g1 : pp_gap b L (k - 1)) (h : ma_at b L k dn all) : ∃ d0 s, s < k ∧ dn = d0 ++ [(s, k - s)] ∧ ma_at b L (k + 1) (d0 ++ [(s, k - s + 1)]) all := by
  rcases h with ⟨h, -⟩ | ⟨-, -, d0, s, hs, h1, h2⟩
  · rcases h with e | e
    · exact absurd e h0
    · exact absurd g1 e
  · refine ⟨d0, s, hs, h1, Or.inr ⟨by omega, by rw [Nat.add_sub_cancel]; exact g, d0, s, by omega, by rw [show k + 1 - s = k - s + 1 by omega], ?_⟩⟩
    rw [h2, pp_gz_pos g, show k + 1 - s + pp_gz b L (k + 1) = k - s + (pp_gz b L (k + 1) + 1) by omega, show k + (pp_gz b L (k + 1) + 1) = k + 1 + pp_gz b L (k + 1) by omega]
section MS
variable {Q : Int32 → gg_S → Prop}
theorem ms_runsOf_4 {r L b : Nat} (hr : r < 5) {all : List (Nat × Nat)} {σ0 : gg_S} (hq : ∀ σ', ma_f89 σ' σ0 → ma_runs σ' all → Q (nI all.length) σ') :
    ∀ (d k : Nat) (dn : List (Nat × Nat)) (σ : gg_S), L - k = d → k ≤ L → ma_row σ r L b → ma_at b L k dn all → ma_f89 σ σ0 → ma_runs σ dn → dn.length ≤ k → mmw_runsOf_4 Q (d + 1) (nI r) (nI dn.length) (nI k) σ := by
  intro d
  induction d with
  | zero =>
    intro k dn σ hd hk hrow hat hf hru hle
    have hkL : k = L := by omega
    subst hkL
    unfold mmw_runsOf_4
    rw [ml_cl (by omega), hrow.1]
    refine ⟨ml_in hr (by decide), fun _ => ?_, fun h => absurd (nI_le (Nat.le_refl k) (by have := hrow.2.2.1; omega)) h⟩
    rw [← ma_at_end hat]
    exact hq σ hf (by rw [ma_at_end hat]; exact hru)
  | succ d ih =>
    intro k dn σ hd hk hrow hat hf hru hle
    have hL := hrow.2.2.1
    have hkL : k < L := by omega
    have hgo : ∀ (dn' : List (Nat × Nat)) (σ' : gg_S), ma_f89 σ' σ → ma_at b L (k + 1) dn' all → ma_runs σ' dn' → dn'.length ≤ k + 1 → mmw_runsOf_4 Q (d + 1) (nI r) (nI dn'.length) (nI k + 1) σ' := by
      intro dn' σ' f1 a1 r1 l1
      rw [show nI k + (1 : Int32) = nI (k + 1) from nI_1 k]
      exact ih (k + 1) dn' σ' (by omega) (by omega) (ma_row_f hrow f1) a1 (fun i q h8 h9 => (f1 i q h8 h9).trans (hf i q h8 h9)) r1 l1
    unfold mmw_runsOf_4
    rw [ml_cl (by omega), hrow.1]
    refine ⟨ml_in hr (by decide), fun h => absurd h (fun z => by have := (nI_leI (by omega) (by omega)).mp z; omega), fun _ => ?_⟩
    -- the gap's count grows
    have h55 : ∀ (d0 : List (Nat × Nat)) (s z : Nat) (σ' : gg_S), pp_gap b L k → ma_f89 σ' σ → ma_runs σ' (d0 ++ [(s, z)]) → z < 2 ^ 30 → ma_at b L (k + 1) (d0 ++ [(s, z + 1)]) all → d0.length ≤ k → mmw_runsOf_55 Q (fun y0 y1 y2 τ => mmw_runsOf_4 Q (d + 1) y0 y1 y2 τ) (nI r) (nI (d0.length + 1)) (nI k) σ' := by
      intro d0 s z σ' g f1 r1 hz a1 l1
      unfold mmw_runsOf_55
      refine ms_isGap hr (by omega) (ma_row_f hrow f1) (fun _ => ml_1 ?_) (fun g' => absurd g g')
      rw [show nI (d0.length + 1) - (1 : Int32) = nI d0.length from nI_pred _, ml_cl (by omega)]
      refine ⟨ml_in (by omega) (by decide), ml_in (by omega) (by decide), fun σ5 e5 => ?_⟩
      subst e5
      have hz9 : gg_g σ' 9 d0.length = nI z := (r1 d0.length (s, z) (by simp)).2
      have hlen : (d0 ++ [(s, z + 1)]).length = d0.length + 1 := by simp
      rw [← hlen]
      refine hgo _ _ (fun i q h8 h9 => by rw [gg_gs, if_neg (fun t => h9 t.1)]; exact f1 i q h8 h9) a1 (fun j q hj => ?_) (by rw [hlen]; omega)
      rcases Nat.lt_or_ge j d0.length with hjl | hjl
      · rw [List.getElem?_append_left hjl] at hj
        have := r1 j q (by rw [List.getElem?_append_left hjl]; exact hj)
        rw [gg_gs, gg_gs, if_neg (fun t => absurd t.1 (by decide)), if_neg (fun t => by omega)]
        exact this
      · have hj0 : j = d0.length := by
          have := (List.getElem?_eq_some_iff.mp hj).1
          rw [hlen] at this
          omega
        subst hj0
        rw [List.getElem?_append_right (Nat.le_refl _), Nat.sub_self] at hj
        cases hj
        have h8 := (r1 d0.length (s, z) (by simp)).1
        rw [gg_gs, gg_gs, if_neg (fun t => absurd t.1 (by decide)), if_pos ⟨rfl, rfl⟩, hz9]
        exact ⟨h8, nI_1 z⟩
    have h38 : pp_gap b L k → (k = 0 ∨ ¬ pp_gap b L (k - 1)) → mmw_runsOf_38 Q (fun y0 y1 y2 τ => mmw_runsOf_4 Q (d + 1) y0 y1 y2 τ) (nI r) (nI dn.length) (nI k) σ := by
      intro g hfr
      unfold mmw_runsOf_38
      rw [ml_cl (by omega)]
      refine ⟨ml_in (by omega) (by decide), fun σ7 e7 => ⟨ml_in (by omega) (by decide), fun σ8 e8 => ?_⟩⟩
      subst e7
      subst e8
      rw [show nI dn.length + (1 : Int32) = nI (dn.length + 1) from nI_1 _]
      refine h55 dn k 0 _ g (fun i q h8 h9 => by rw [gg_gs, if_neg (fun t => h9 t.1), gg_gs, if_neg (fun t => h8 t.1)]) (fun j q hj => ?_) (by decide) (ma_at_new g hfr hat) hle
      rcases Nat.lt_or_ge j dn.length with hjl | hjl
      · rw [List.getElem?_append_left hjl] at hj
        have := hru j q hj
        rw [gg_gs, if_neg (fun t => absurd t.1 (by decide)), gg_gs, if_neg (fun t => by omega), gg_gs, if_neg (fun t => by omega), gg_gs, if_neg (fun t => absurd t.1 (by decide))]
        exact this
      · have hj0 : j = dn.length := by
          have := (List.getElem?_eq_some_iff.mp hj).1
          simp at this
          omega
        subst hj0
        rw [List.getElem?_append_right (Nat.le_refl _), Nat.sub_self] at hj
        cases hj
        rw [gg_gs, if_neg (fun t => absurd t.1 (by decide)), gg_gs, if_pos ⟨rfl, rfl⟩, gg_gs, if_pos ⟨rfl, rfl⟩]
        exact ⟨rfl, rfl⟩
    refine ms_isGap hr (by omega) hrow (fun g => ml_1 ?_) (fun g => ml_0 ?_)
    · refine ⟨fun e => h38 g (Or.inl ?_), fun e => ?_⟩
      · exact (nI_eq (a := k) (b := 0) (by omega) (by decide)).mp e
      · have hk0 : k ≠ 0 := fun z => e (by rw [z]; rfl)
        rw [show nI k - (1 : Int32) = nI (k - 1) from pk_sub (a := k) (b := 1) (by omega)]
        refine ms_isGap hr (by omega) hrow (fun g1 => ml_1 ?_) (fun g1 => ml_0 (h38 g (Or.inr g1)))
        obtain ⟨d0, s, hs, h1, a1⟩ := ma_at_more g hk0 g1 hat
        have hlen : dn.length = d0.length + 1 := by rw [h1]; simp
        rw [hlen]
        exact h55 d0 s (k - s) σ g (fun _ _ _ _ => rfl) (by rw [← h1]; exact hru) (by omega) a1 (by omega)
    · unfold mmw_runsOf_55
      refine ms_isGap hr (by omega) hrow (fun g' => absurd g' g) (fun _ => ml_0 ?_)
      exact hgo dn σ (fun _ _ _ _ => rfl) (ma_at_no hkL g hat) hru (by omega)
/-- how many runs a row has; where they begin, how long they are stands in two arrays -/
theorem ms_runsOf {r L b : Nat} {σ : gg_S} (hr : r < 5) (h : ma_row σ r L b) (hq : ∀ σ', ma_f89 σ' σ → ma_runs σ' (pp_runs b L) → Q (nI (pp_runs b L).length) σ') : mmw_runsOf (nI r) σ Q := by
  unfold mmw_runsOf
  refine ⟨L + 1, ms_runsOf_4 (σ0 := σ) hr hq L 0 [] σ (by omega) (by omega) h (Or.inl ⟨Or.inl rfl, rfl⟩) (fun _ _ _ _ => rfl) (fun j q hj => by simp at hj) (by simp)⟩
end MS
