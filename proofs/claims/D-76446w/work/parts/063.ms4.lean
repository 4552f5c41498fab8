/-! THE REFERENCE: gleaning -/
/-- runs behind one another, from q on, below M -/
def pp_ord : Int → Int → List (Nat × Nat) → Prop
  | q, M, [] => q ≤ M
  | q, M, (k, z) :: rs => q ≤ k ∧ (k : Int) + z ≤ M ∧ pp_ord (k + z) M rs
theorem pp_rn_ord (b L : Nat) : ∀ d k : Nat, L - k ≤ d → k ≤ L → pp_ord k L (pp_rn b L k) := by
  intro d
  induction d with
  | zero =>
    intro k h hk
    rw [pp_rn_end (by omega)]
    show (k : Int) ≤ L
    omega
  | succ d ih =>
    intro k h hk
    by_cases hkL : k < L
    · by_cases g : pp_gap b L k
      · rw [pp_rn_gap g]
        have h1 := pp_gz_le b L L k (by omega)
        have h2 := pp_gz_pos g
        refine ⟨Int.le_refl _, by omega, ?_⟩
        have := ih (k + pp_gz b L k) (by omega) (by omega)
        rw [Int.natCast_add] at this
        exact this
      · rw [pp_rn_no hkL g]
        have h3 := ih (k + 1) (by omega) (by omega)
        have mono : ∀ (rs : List (Nat × Nat)) (q q' : Int), q ≤ q' → pp_ord q' L rs → pp_ord q L rs := by
          intro rs q q' hqq ho
          cases rs with
          | nil => exact Int.le_trans hqq ho
          | cons x rs => exact ⟨Int.le_trans hqq ho.1, ho.2⟩
        exact mono _ _ _ (by omega) h3
    · rw [pp_rn_end (by omega)]
      show (k : Int) ≤ L
      omega
theorem pp_tk_le (kd num apr v g : Nat) : pp_tk kd num apr v g ≤ g := by
  unfold pp_tk
  split
  · omega
  · split
    · split <;> omega
    · split
      · omega
      · omega
theorem pp_cl_b {lo hi x : Int} (h : lo ≤ hi) : lo ≤ pp_cl lo hi x ∧ pp_cl lo hi x ≤ hi := by
  unfold pp_cl
  split
  · omega
  · split <;> omega
/-- what a gleaner of a kind takes, as gleaning asks it -/
def ma_tk (f : Nat → pp_F) (night : Int32) (kd num : Nat) : Nat → Nat → Nat → Nat → Int := fun z nth L a => pp_tk kd num a (ma_say f 0 99 (ma_env (nI z) (nI nth) (nI num) night (nI a) (nI L))) z
/-- what gleaning row r by gleaner p leaves as it was -/
abbrev ma_fg (r p : Nat) (σ' σ : gg_S) : Prop := ∀ i k, (i = 0 → k ∈ ma_k0) → i ≠ 8 → i ≠ 9 → i ≠ 10 → ¬ (i = 4 ∧ k = r) → ¬ (i = 5 ∧ k = r) → ¬ (i = 7 ∧ k = 2 * p + 1) → gg_g σ' i k = gg_g σ i k
theorem ma_fg_tr {r p : Nat} {x y z : gg_S} (h1 : ma_fg r p x y) (h2 : ma_fg r p y z) : ma_fg r p x z := fun i k a1 a2 a3 a4 a5 a6 a7 => (h1 i k a1 a2 a3 a4 a5 a6 a7).trans (h2 i k a1 a2 a3 a4 a5 a6 a7)
theorem ma_fg_e0 {r p : Nat} {x y : gg_S} (h : ma_e0 x y) : ma_fg r p x y := fun i k a1 _ _ _ _ _ _ => by
  by_cases hi : i = 0
  · subst hi
    exact h.2 k (a1 rfl)
  · exact h.1 i k hi
theorem ma_tx_fg {r p : Nat} {σ σ' : gg_S} {f : Nat → pp_F} (h : ma_tx σ f) (g : ma_fg r p σ' σ) : ma_tx σ' f := by
  obtain ⟨t, h1, h2, n, h3, h4, h5⟩ := h
  have g' : ∀ i k, i = 1 ∨ i = 2 → gg_g σ' i k = gg_g σ i k := fun i k hi => g i k (by omega) (by omega) (by omega) (by omega) (by omega) (by omega) (by omega)
  refine ⟨t, h1, by rw [g 0 4 (by decide) (by decide) (by decide) (by decide) (by omega) (by omega) (by omega)]; exact h2, n, h3, by rw [g' 2 t (by omega)]; exact h4, ?_⟩
  rw [show (fun i => gg_g σ' 1 (160 * t + i)) = (fun i => gg_g σ 1 (160 * t + i)) from funext fun i => g' 1 _ (by omega)]
  exact h5
/-- what was taken stands in an array -/
abbrev ma_took (σ : gg_S) (l : List Int) : Prop := ∀ (j : Nat) (t : Int), l[j]? = some t → gg_g σ 10 j = Int32.ofInt t
section MS
variable {Q : Int32 → gg_S → Prop}
set_option maxHeartbeats 4000000 in
theorem ms_gleans_12 {f : Nat → pp_F} {r p kd num : Nat} {all : List (Nat × Nat)} {σ0 : gg_S} (hr : r < 5) (hp : p < 5) (hal : all.length ≤ 24) :
    ∀ (rs : List (Nat × Nat)) (k b L a : Nat) (s q M : Int) (σ : gg_S) (td : List Int), all.drop k = rs → k = td.length → k ≤ all.length → ma_row σ r L b → ma_fo σ p kd num a → ma_tx σ f → ma_runs σ all → pp_ord q M rs → s ≤ q → M = L + s → M ≤ 24 → 0 ≤ M →
      ma_took σ td → ma_fg r p σ σ0 →
      (∀ σ', ma_row σ' r (pp_gl (ma_tk f (gg_g σ0 0 7) kd num) rs k b L a s).1.2.1 (pp_gl (ma_tk f (gg_g σ0 0 7) kd num) rs k b L a s).1.1 → ma_fo σ' p kd num (pp_gl (ma_tk f (gg_g σ0 0 7) kd num) rs k b L a s).1.2.2.1 →
        ma_took σ' (td ++ (pp_gl (ma_tk f (gg_g σ0 0 7) kd num) rs k b L a s).2) → ma_fg r p σ' σ0 → Q (Int32.ofInt (pp_gl (ma_tk f (gg_g σ0 0 7) kd num) rs k b L a s).1.2.2.2) σ') →
      mmw_gleans_12 Q (rs.length + 1) (nI p) (nI r) (nI all.length) (Int32.ofInt s) (nI k) σ := by
  intro rs
  induction rs with
  | nil =>
    intro k b L a s q M σ td hdr hk hkle hrow hfo htx hru hord hsq hM hM24 hM0 htd hfg hq
    have hk' : all.length ≤ k := by
      have := congrArg List.length hdr
      simp at this
      omega
    unfold mmw_gleans_12
    refine ⟨fun _ => ?_, fun h => absurd (nI_le hk' (by omega)) h⟩
    have := hq σ hrow hfo (by rw [pp_gl, List.append_nil]; exact htd) hfg
    rw [pp_gl] at this
    exact this
  | cons x rs ih =>
    obtain ⟨k0, z⟩ := x
    intro k b L a s q M σ td hdr hk hkle hrow hfo htx hru hord hsq hM hM24 hM0 htd hfg hq
    have hkl : k < all.length := by
      have := congrArg List.length hdr
      simp at this
      omega
    have hak : all[k]? = some (k0, z) := by
      have := congrArg (fun l => l[0]?) hdr
      simpa using this
    obtain ⟨hb8, hz9⟩ := hru k _ hak
    obtain ⟨ho1, ho2, ho3⟩ := hord
    have hL := hrow.2.2.1
    have ha := hfo.2.2.2.2.2
    unfold mmw_gleans_12
    refine ⟨fun h => absurd h (nI_ge hkl (by omega)), fun _ => ?_⟩
    rw [ml_cl (by omega), ml_cl (by omega), hz9, hrow.1]
    refine ⟨ml_in (by omega) (by decide), ml_in hr (by decide), ?_⟩
    refine ms_takesOf hp htx (by omega) hfo (fun σ3 he => ⟨ml_in hr (by decide), ?_⟩)
    have hrow3 := ma_row_e0 hrow he
    have hfo3 := ma_fo_e0 hfo he
    have htx3 := ma_tx_e0 htx he
    have hn : gg_g σ 0 7 = gg_g σ0 0 7 := hfg 0 7 (fun _ => by decide) (by decide) (by decide) (by decide) (by omega) (by omega) (by omega)
    rw [hrow3.1, hn]
    generalize ht0 : pp_tk kd num a (ma_say f 0 99 (ma_env (nI z) (nI k) (nI num) (gg_g σ0 0 7) (nI a) (nI L))) z = t0
    have ht0' : ma_tk f (gg_g σ0 0 7) kd num z k L a = t0 := ht0
    have ht0z : t0 ≤ z := by rw [← ht0]; exact pp_tk_le _ _ _ _ _
    have ht0l : -10 ≤ t0 := by
      rw [← ht0]
      unfold pp_tk
      have := hfo.2.2.2.2.1
      split
      · omega
      · split
        · split <;> omega
        · split
          · omega
          · omega
    -- behind the choice: the run is closed by t
    have h67 : ∀ t : Int, t = max t0 (-(24 - L : Int)) → mmw_gleans_67 Q (fun y0 y1 y2 y3 y4 τ => mmw_gleans_12 Q (rs.length + 1) y0 y1 y2 y3 y4 τ) (nI p) (nI r) (nI all.length) (Int32.ofInt s) (nI k) (Int32.ofInt t) σ3 := by
      intro t ht
      have hgl : pp_gl (ma_tk f (gg_g σ0 0 7) kd num) ((k0, z) :: rs) k b L a s = ((pp_gl (ma_tk f (gg_g σ0 0 7) kd num) rs (k + 1) (pp_cs b L (k0 - s).toNat t).1 (pp_cs b L (k0 - s).toNat t).2 (pp_cl 0 999 (a + t)).toNat (s + t)).1, t :: (pp_gl (ma_tk f (gg_g σ0 0 7) kd num) rs (k + 1) (pp_cs b L (k0 - s).toNat t).1 (pp_cs b L (k0 - s).toNat t).2 (pp_cl 0 999 (a + t)).toNat (s + t)).2) := by
        rw [pp_gl, ht0', ← ht]
      rw [hgl] at hq
      have hpl : (k0 - s).toNat ≤ L := by omega
      have htl : t ≤ (L : Int) - (k0 - s).toNat := by omega
      have hlt := ml_cs_lt hpl hrow.2.2.2 htl
      have hL1 : (pp_cs b L (k0 - s).toNat t).2 = (L - t : Int).toNat := by
        unfold pp_cs
        split
        · show L + t.natAbs = _
          omega
        · show L - t.natAbs = _
          omega
      unfold mmw_gleans_67
      rw [ml_cl (by omega), he.1 8 k (by decide), hb8, ml_21, ml_cl (by omega)]
      refine ⟨ml_in (by omega) (by decide), ?_⟩
      rw [ml_iN k0, ← Int32.ofInt_sub, ml_iNat (by omega)]
      refine ms_closes hr hrow3 hpl htl (by omega) ⟨ml_in (by omega) (by decide), ?_⟩
      generalize hσ5 : gg_s (gg_s σ3 4 r (nI (pp_cs b L (k0 - s).toNat t).1)) 5 r (nI (pp_cs b L (k0 - s).toNat t).2) = σ5
      have g5 : ∀ i j, ¬ (i = 4 ∧ j = r) → ¬ (i = 5 ∧ j = r) → gg_g σ5 i j = gg_g σ3 i j := by
        intro i j n4 n5
        rw [← hσ5, gg_gs, if_neg n5, gg_gs, if_neg n4]
      have r5 : ma_row σ5 r (pp_cs b L (k0 - s).toNat t).2 (pp_cs b L (k0 - s).toNat t).1 := by
        refine ⟨by rw [← hσ5, gg_gs, if_pos ⟨rfl, rfl⟩], by rw [← hσ5, gg_gs, if_neg (fun z => absurd z.1 (by decide)), gg_gs, if_pos ⟨rfl, rfl⟩], by omega, hlt⟩
      rw [g5 7 _ (by omega) (by omega), hfo3.2.2.1, ml_iN a, ← Int32.ofInt_add, show (999 : Int32) = nI 999 from rfl]
      refine ms_within (by decide) ?_
      rw [ml_iT (by omega) (by omega)]
      refine ⟨ml_in (by omega) (by decide), fun σ8 e8 => ⟨ml_in (by omega) (by decide), fun σ9 e9 => ?_⟩⟩
      have g9 : ∀ i j, ¬ (i = 7 ∧ j = 2 * p + 1) → ¬ (i = 10 ∧ j = k) → gg_g σ9 i j = gg_g σ5 i j := by
        intro i j n7 n10
        rw [e9, gg_gs, if_neg n10, e8, gg_gs, if_neg n7]
      have hcl := pp_cl_b (lo := 0) (hi := 999) (x := (a : Int) + t) (by decide)
      have f9 : ma_fg r p σ9 σ := by
        intro i j a1 a2 a3 a4 a5 a6 a7
        rw [g9 i j a7 (fun z => a4 z.1), g5 i j a5 a6]
        exact ma_fg_e0 he i j a1 a2 a3 a4 a5 a6 a7
      rw [show nI k + (1 : Int32) = nI (k + 1) from nI_1 k, ← Int32.ofInt_add]
      refine ih (k + 1) _ _ (pp_cl 0 999 ((a : Int) + t)).toNat (s + t) (k0 + z) M σ9 (td ++ [t]) ?_ (by simp [hk]) (by omega) ⟨by rw [g9 5 r (by omega) (by omega)]; exact r5.1, by rw [g9 4 r (by omega) (by omega)]; exact r5.2.1, r5.2.2⟩ ?_ (ma_tx_fg htx f9) ?_ ho3 (by omega) (by omega) hM24 hM0 ?_ (ma_fg_tr f9 hfg) ?_
      · have := congrArg (List.drop 1) hdr
        rw [List.drop_drop] at this
        simpa [Nat.add_comm] using this
      · refine ⟨by rw [g9 6 _ (by omega) (by omega), g5 6 _ (by omega) (by omega)]; exact hfo3.1, by rw [g9 7 _ (by omega) (by omega), g5 7 _ (by omega) (by omega)]; exact hfo3.2.1, ?_, hfo.2.2.2.1, hfo.2.2.2.2.1, by omega⟩
        rw [e9, gg_gs, if_neg (fun z => absurd z.1 (by decide)), e8, gg_gs, if_pos ⟨rfl, rfl⟩]
        rfl
      · intro j x hj
        rw [g9 8 j (by omega) (by omega), g9 9 j (by omega) (by omega), g5 8 j (by omega) (by omega), g5 9 j (by omega) (by omega), he.1 8 j (by decide), he.1 9 j (by decide)]
        exact hru j x hj
      · intro j x hj
        rcases Nat.lt_or_ge j td.length with hjl | hjl
        · rw [List.getElem?_append_left hjl] at hj
          rw [g9 10 j (by omega) (by omega), g5 10 j (by omega) (by omega), he.1 10 j (by decide)]
          exact htd j x hj
        · have hj0 : j = td.length := by
            have := (List.getElem?_eq_some_iff.mp hj).1
            simp at this
            omega
          subst hj0
          rw [List.getElem?_append_right (Nat.le_refl _), Nat.sub_self] at hj
          cases hj
          rw [e9, gg_gs, if_pos ⟨rfl, hk.symm⟩]
      · intro σ' h1 h2 h3 h4
        exact hq σ' h1 h2 (by rw [List.append_assoc] at h3; exact h3) h4
    have hroom : -((24 : Int32) - nI L) = Int32.ofInt (-(24 - L : Int)) := by
      rw [ml_iN L, show (24 : Int32) = Int32.ofInt 24 from rfl, ← Int32.ofInt_sub, ← Int32.ofInt_neg]
    rw [hroom, ml_iLe (by omega) (by omega) (by omega) (by omega)]
    exact ⟨fun h => h67 t0 (by omega), fun h => h67 _ (by omega)⟩
/-- a row gleaned: the row, the apron, what was taken of each run, the sum -/
theorem ms_gleans {f : Nat → pp_F} {r p kd num a b L : Nat} {σ : gg_S} (hr : r < 5) (hp : p < 5) (hrow : ma_row σ r L b) (hfo : ma_fo σ p kd num a) (htx : ma_tx σ f)
    (hq : ∀ σ', ma_row σ' r (pp_gl (ma_tk f (gg_g σ 0 7) kd num) (pp_runs b L) 0 b L a 0).1.2.1 (pp_gl (ma_tk f (gg_g σ 0 7) kd num) (pp_runs b L) 0 b L a 0).1.1 → ma_fo σ' p kd num (pp_gl (ma_tk f (gg_g σ 0 7) kd num) (pp_runs b L) 0 b L a 0).1.2.2.1 →
      ma_took σ' (pp_gl (ma_tk f (gg_g σ 0 7) kd num) (pp_runs b L) 0 b L a 0).2 → ma_fg r p σ' σ → Q (Int32.ofInt (pp_gl (ma_tk f (gg_g σ 0 7) kd num) (pp_runs b L) 0 b L a 0).1.2.2.2) σ') : mmw_gleans (nI p) (nI r) σ Q := by
  have hL := hrow.2.2.1
  have hlen : (pp_runs b L).length ≤ L := pp_rn_len b L L 0 (by omega)
  unfold mmw_gleans
  refine ms_runsOf hr hrow (fun σ1 hf hru => ?_)
  have hfg : ma_fg r p σ1 σ := fun i k _ h8 h9 _ _ _ _ => hf i k h8 h9
  have hfo1 : ma_fo σ1 p kd num a := ⟨by rw [hf 6 _ (by decide) (by decide)]; exact hfo.1, by rw [hf 7 _ (by decide) (by decide)]; exact hfo.2.1, by rw [hf 7 _ (by decide) (by decide)]; exact hfo.2.2.1, hfo.2.2.2⟩
  have ho := pp_rn_ord b L L 0 (by omega) (by omega)
  refine ⟨_, ms_gleans_12 (σ0 := σ) (f := f) (num := num) (kd := kd) hr hp (by omega) (pp_runs b L) 0 b L a 0 0 L σ1 [] (by simp) rfl (by omega) (ma_row_f hrow hf) hfo1 (ma_tx_fg htx hfg) hru (by simpa [pp_runs] using ho) (Int.le_refl _) (by omega) (by omega) (by omega) (fun j t hj => by simp at hj) hfg ?_⟩
  intro σ' h1 h2 h3 h4
  exact hq σ' h1 h2 (by simpa using h3) h4
end MS
