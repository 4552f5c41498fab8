/-! THE REFERENCE'S METHODS, on: sheets, what they tell, texts -/
section MY
variable {σ : gg_S} {s : pp_S} {Q : Int32 → gg_S → Prop}
/-! one taken for another kind -/
def pp_isA (kd k : Nat) : Bool := decide (kd = k) || decide (k = 0) || (decide (kd = 3) && decide (k = 1)) || (decide (kd = 4) && decide (k = 2))
def po_taken (s : pp_S) (one k : Int32) : Int32 := match pp_ix k 6 with
  | none => -2
  | some k => match pp_ix one s.g.1 with
    | none => -11
    | some p => if pp_isA (s.g.2.1 p) k then nI (s.g.2.2 p) else -13
theorem ms_over {x : Nat} (hx : x ≤ 5) (h0 : x = 0 → Q (-1) σ) (h3 : x = 3 → Q (nI 1) σ) (h4 : x = 4 → Q (nI 2) σ) (h : x ≠ 0 → x ≠ 3 → x ≠ 4 → Q (nI 0) σ) : mmw_over (nI x) σ Q := by
  have e0 : nI x = 0 ↔ x = 0 := nI_eq (b := 0) (by omega) (by decide)
  have e3 : nI x = 3 ↔ x = 3 := nI_eq (b := 3) (by omega) (by decide)
  have e4 : nI x = 4 ↔ x = 4 := nI_eq (b := 4) (by omega) (by decide)
  unfold mmw_over
  rw [e0, e3, e4]
  exact ⟨h0, fun n0 => ⟨h3, fun n3 => ⟨h4, fun n4 => h n0 n3 n4⟩⟩⟩
theorem ms_taken_33 {p k num : Nat} (hp : p < 5) (hk : k ≤ 5) (hn : gg_g σ 7 (2 * p) = nI num) :
    ∀ (n x : Nat), x ≤ 5 → (if x = 0 then 0 else if x = 3 ∨ x = 4 then 2 else 1) ≤ n → Q (if pp_isA x k then nI num else -13) σ → mmw_taken_33 Q (n + 2) (nI p) (nI k) (nI x) σ := by
  have m1 : ∀ x : Nat, x ≤ 5 → ¬ nI x = -1 := fun x hx z => by
    have := congrArg Int32.toInt z
    rw [nI_toInt (by omega), show (-1 : Int32).toInt = -1 by decide] at this
    omega
  have last : ∀ x : Int32, (x = nI k → Q (nI num) σ) → (¬ x = nI k → Q (-13) σ) → mmw_taken_51 Q (nI p) (nI k) x σ := fun x a b => by
    unfold mmw_taken_51
    rw [ml_2, ml_cl (by omega), hn]
    exact ⟨fun e => ⟨ml_in (by omega) (by decide), a e⟩, b⟩
  intro n
  induction n with
  | zero =>
    intro x hx hd hq
    have h0 : x = 0 := by
      by_cases e : x = 0
      · exact e
      · rw [if_neg e] at hd
        split at hd <;> omega
    subst h0
    unfold mmw_taken_33
    rw [nI_eq (by decide) (by omega)]
    refine ⟨fun z => absurd z (m1 0 (by decide)), fun _ => ⟨fun e => last _ (fun _ => ?_) (fun z => absurd (by rw [e]) z), fun e => ms_over (by decide) (fun _ => ?_) (fun z => by omega) (fun z => by omega) (fun z => absurd rfl z)⟩⟩
    · subst e
      exact hq
    · unfold mmw_taken_33
      refine ⟨fun _ => last _ (fun z => absurd z.symm (m1 k hk)) (fun _ => ?_), fun z => absurd rfl z⟩
      have : pp_isA 0 k = false := by
        rcases (show k = 1 ∨ k = 2 ∨ k = 3 ∨ k = 4 ∨ k = 5 by omega) with rfl | rfl | rfl | rfl | rfl <;> rfl
      rw [this] at hq
      exact hq
  | succ n ih =>
    intro x hx hd hq
    unfold mmw_taken_33
    rw [nI_eq (by omega) (by omega)]
    refine ⟨fun z => absurd z (m1 x hx), fun _ => ⟨fun e => last _ (fun _ => ?_) (fun z => absurd (by rw [e]) z), fun e => ms_over hx (fun h0 => ?_) (fun h3 => ?_) (fun h4 => ?_) (fun n0 n3 n4 => ?_)⟩⟩
    · subst e
      have : pp_isA x x = true := by unfold pp_isA; simp
      rw [this] at hq
      exact hq
    · subst h0
      unfold mmw_taken_33
      refine ⟨fun _ => last _ (fun z => absurd z.symm (m1 k hk)) (fun _ => ?_), fun z => absurd rfl z⟩
      have : pp_isA 0 k = false := by
        rcases (show k = 1 ∨ k = 2 ∨ k = 3 ∨ k = 4 ∨ k = 5 by omega) with rfl | rfl | rfl | rfl | rfl <;> rfl
      rw [this] at hq
      exact hq
    · subst h3
      refine ih 1 (by decide) ?_ ?_
      · have : (2 : Nat) ≤ n + 1 := hd
        show 1 ≤ n
        omega
      · have : pp_isA 3 k = pp_isA 1 k := by
          rcases (show k = 0 ∨ k = 1 ∨ k = 2 ∨ k = 4 ∨ k = 5 by omega) with rfl | rfl | rfl | rfl | rfl <;> rfl
        rw [← this]
        exact hq
    · subst h4
      refine ih 2 (by decide) ?_ ?_
      · have : (2 : Nat) ≤ n + 1 := hd
        show 1 ≤ n
        omega
      · have : pp_isA 4 k = pp_isA 2 k := by
          rcases (show k = 0 ∨ k = 1 ∨ k = 2 ∨ k = 3 ∨ k = 5 by omega) with rfl | rfl | rfl | rfl | rfl <;> rfl
        rw [← this]
        exact hq
    · refine ih 0 (by decide) (Nat.zero_le _) ?_
      have : pp_isA x k = pp_isA 0 k := by
        rcases (show x = 1 ∨ x = 2 ∨ x = 5 by omega) with rfl | rfl | rfl <;> rcases (show k = 0 ∨ k = 1 ∨ k = 2 ∨ k = 3 ∨ k = 4 ∨ k = 5 by omega) with rfl | rfl | rfl | rfl | rfl | rfl <;> first | rfl | exact absurd rfl e
      rw [← this]
      exact hq
theorem ms_taken {one k : Int32} (h : RM σ s) (hq : ∀ σ', RM σ' s → Q (po_taken s one k) σ') : mmw_taken one k σ Q := by
  have hm' : s.g.1 ≤ 5 := h.1.1
  unfold po_taken at hq
  unfold mmw_taken
  refine ms_lt (n := 6) (by decide) (by decide) (fun k hk e => ml_1 ?_) (fun e => ml_0 ?_)
  · subst e
    rw [pp_ix_some hk (by decide)] at hq
    dsimp only at hq
    refine ms_isOne (n := s.g.1) h.1.2.1 hm' (fun p hp e => ml_1 ?_) (fun e => ml_0 ?_)
    · subst e
      rw [pp_ix_some (n := s.g.1) hp (by omega)] at hq
      obtain ⟨o1, o2, o3, o4, o5, o6⟩ := h.1.2.2.2.1 p hp
      rw [ml_cl (by omega), o1]
      refine ⟨ml_in (by omega) (by decide), 4, ms_taken_33 (by omega) (by omega) o2 2 (s.g.2.1 p) o4 ?_ (hq σ h)⟩
      split
      · decide
      · split <;> decide
    · rw [pp_ix_none (n := s.g.1) (by omega) e] at hq
      exact hq σ h
  · rw [pp_ix_none (by decide) e] at hq
    exact hq σ h
/-! sheets -/
def pp_sup (f : Nat → Option (Nat × Nat × (Nat → Int32))) (k : Nat) (o : Option (Nat × Nat × (Nat → Int32))) : Nat → Option (Nat × Nat × (Nat → Int32)) := fun j => if j = k then o else f j
theorem RM_sh {y : gg_S} {k : Nat} {o : Option (Nat × Nat × (Nat → Int32))} (h : RM σ s) (e : ∀ i q, ¬ ((i = 18 ∨ i = 19 ∨ i = 20) ∧ q = k) → ¬ (i = 21 ∧ 40 * k ≤ q ∧ q < 40 * k + 40) → gg_g y i q = gg_g σ i q) (ho : ma_sh y k o) : RM y (s.c, s.g, s.t, s.tp, s.im, pp_sup s.sh k o) := by
  refine RM_same h (fun q _ => e 0 q (by omega) (by omega)) (fun i a b q => e i q (by omega) (by omega)) (ma_im_of h.2.2.2.2.1 (fun q _ => e 0 q (by omega) (by omega)) (fun i hi q => ?_)) (fun j hj => ?_)
  · have key : ∀ i, i ∈ [15, 16, 17] → i ≤ 17 := by decide
    have := key i hi
    exact e i q (by omega) (by omega)
  · unfold pp_sup
    by_cases ej : j = k
    · rw [if_pos ej, ej]
      exact ho
    · rw [if_neg ej]
      have z := h.2.2.2.2.2 j hj
      cases hs : s.sh j with
      | none =>
        rw [hs] at z
        unfold ma_sh at z ⊢
        rw [e 18 j (by omega) (by omega)]; exact z
      | some q =>
        rw [hs] at z
        obtain ⟨so, n, it⟩ := q
        unfold ma_sh at z ⊢
        obtain ⟨h1, h2, h3, h4, h5, h6⟩ := z
        exact ⟨by rw [e 18 j (by omega) (by omega)]; exact h1, by rw [e 19 j (by omega) (by omega)]; exact h2, h3, by rw [e 20 j (by omega) (by omega)]; exact h4, h5, fun i hi => by rw [e 21 _ (by omega) (by omega)]; exact h6 i hi⟩
def po_sheet (s : pp_S) (k so n : Int32) : Int32 × pp_S := match pp_ix k 4 with
  | none => (-2, s)
  | some k => if so = -1 then (1, (s.c, s.g, s.t, s.tp, s.im, pp_sup s.sh k none)) else match pp_ix so 3 with
    | none => (-2, s)
    | some t => if 40 < n.toInt then (-2, s) else if n.toInt < 0 then (-14, s) else (1, (s.c, s.g, s.t, s.tp, s.im, pp_sup s.sh k (some (t, n.toInt.toNat, fun _ => 0))))
theorem ms_sheet_77 {k n : Nat} {so : Int32} {σ0 : gg_S} (hk : k < 4) (hn : n ≤ 40) (hso : ¬ so < 0) (hq : ∀ σ', (∀ i q, ¬ (i = 21 ∧ 40 * k ≤ q ∧ q < 40 * k + 40) → gg_g σ' i q = gg_g σ0 i q) → (∀ i, i < n → gg_g σ' 21 (40 * k + i) = 0) → Q 1 σ') :
    ∀ (d i : Nat) (σ : gg_S), i + d = n → (∀ j q, ¬ (j = 21 ∧ 40 * k ≤ q ∧ q < 40 * k + 40) → gg_g σ j q = gg_g σ0 j q) → (∀ j, j < i → gg_g σ 21 (40 * k + j) = 0) → mmw_sheet_77 Q (d + 1) (nI k) so (nI n) (nI i) σ := by
  intro d
  induction d with
  | zero =>
    intro i σ h1 h2 h3
    unfold mmw_sheet_77
    rw [nI_leI (by omega) (by omega)]
    exact ⟨fun _ => hq σ h2 (fun j hj => h3 j (by omega)), fun z => absurd (show n ≤ i by omega) z⟩
  | succ d ih =>
    intro i σ h1 h2 h3
    unfold mmw_sheet_77
    rw [nI_leI (by omega) (by omega), show (40 : Int32) = nI 40 from rfl, pk_mul, nI_add, ml_cl (by omega), nI_1]
    refine ⟨fun z => by omega, fun _ => ⟨fun z => absurd z hso, fun _ => ⟨ml_in (by omega) (by decide), ?_⟩⟩⟩
    rintro _ rfl
    refine ih (i + 1) _ (by omega) (fun j q hn => ?_) (fun j hj => ?_)
    · rw [gg_gs, if_neg (fun z => hn ⟨z.1, by omega, by omega⟩)]
      exact h2 j q hn
    · rw [gg_gs]
      by_cases e : j = i
      · rw [if_pos ⟨rfl, by omega⟩]
      · rw [if_neg (by omega)]
        exact h3 j (by omega)
theorem ms_sheet_59 {k n t : Nat} (hk : k < 4) (hn : n ≤ 40) (ht : t ≤ 2) (hq : ∀ σ', (∀ i q, ¬ ((i = 18 ∨ i = 19 ∨ i = 20) ∧ q = k) → ¬ (i = 21 ∧ 40 * k ≤ q ∧ q < 40 * k + 40) → gg_g σ' i q = gg_g σ i q) → ma_sh σ' k (some (t, n, fun _ => 0)) → Q 1 σ') : mmw_sheet_59 Q (nI k) (nI t) (nI n) (nI k) 1 σ := by
  unfold mmw_sheet_59
  rw [ml_cl (by omega)]
  refine ⟨ml_in (by omega) (by decide), Or.inr rfl, ?_⟩
  rintro _ rfl
  refine ⟨ml_in (by omega) (by decide), ?_⟩
  rintro _ rfl
  refine ⟨ml_in (by omega) (by decide), ?_⟩
  rintro _ rfl
  refine ⟨n + 1, ms_sheet_77 hk hn (nI_pos (by omega)) (fun σ' e z => hq σ' (fun i q a b => ?_) ⟨?_, ?_, ht, ?_, hn, z⟩) n 0 _ (by omega) (fun _ _ _ => rfl) (fun j hj => by omega)⟩
  · rw [e i q b, gg_gs, if_neg (by omega), gg_gs, if_neg (by omega), gg_gs, if_neg (by omega)]
  · rw [e 18 k (by omega), gg_gs, if_neg (by omega), gg_gs, if_neg (by omega), gg_gs, if_pos ⟨rfl, rfl⟩]
  · rw [e 19 k (by omega), gg_gs, if_neg (by omega), gg_gs, if_pos ⟨rfl, rfl⟩]
  · rw [e 20 k (by omega), gg_gs, if_pos ⟨rfl, rfl⟩]
theorem ms_sheet_no {k : Nat} {n : Int32} (hk : k < 4) (hq : ∀ σ', (∀ i q, ¬ ((i = 18 ∨ i = 19 ∨ i = 20) ∧ q = k) → ¬ (i = 21 ∧ 40 * k ≤ q ∧ q < 40 * k + 40) → gg_g σ' i q = gg_g σ i q) → ma_sh σ' k none → Q 1 σ') : mmw_sheet_59 Q (nI k) (-1) n (nI k) 0 σ := by
  unfold mmw_sheet_59
  rw [ml_cl (by omega)]
  refine ⟨ml_in (by omega) (by decide), Or.inl rfl, ?_⟩
  rintro _ rfl
  refine ⟨ml_in (by omega) (by decide), ?_⟩
  rintro _ rfl
  refine ⟨ml_in (by omega) (by decide), ?_⟩
  rintro _ rfl
  have fin : Q 1 (gg_s (gg_s (gg_s σ 18 k 0) 19 k (-1)) 20 k n) := by
    refine hq _ (fun i q a b => ?_) ?_
    · rw [gg_gs, if_neg (by omega), gg_gs, if_neg (by omega), gg_gs, if_neg (by omega)]
    · show gg_g _ 18 k = 0
      rw [gg_gs, if_neg (by omega), gg_gs, if_neg (by omega), gg_gs, if_pos ⟨rfl, rfl⟩]
  refine ⟨1, ?_⟩
  unfold mmw_sheet_77
  exact ⟨fun _ => fin, fun _ => ⟨fun _ => fin, fun z => absurd (by decide) z⟩⟩
theorem ms_sheet {k so n : Int32} (h : RM σ s) (hq : ∀ σ', RM σ' (po_sheet s k so n).2 → Q (po_sheet s k so n).1 σ') : mmw_sheet k so n σ Q := by
  unfold po_sheet at hq
  unfold mmw_sheet
  refine ms_isSheet (fun k hk e => ml_1 ?_) (fun e => ml_0 ?_)
  · subst e
    rw [pp_ix_some hk (by decide)] at hq
    dsimp only at hq
    refine ms_inc (a := -1) (z := 2) (by decide) (by decide) (fun hs => ml_1 ?_) (fun hs => ml_0 ?_)
    · by_cases e1 : so = -1
      · subst e1
        rw [if_pos rfl] at hq
        unfold mmw_sheet_34 mmw_sheet_45
        refine ⟨fun _ => ⟨fun _ => ⟨fun _ => ms_sheet_no hk (fun σ' e z => hq σ' (RM_sh h e z)), fun z => absurd (by decide) z⟩, fun z => absurd (by decide) z⟩, fun z => absurd (by decide) z⟩
      · rw [if_neg e1] at hq
        obtain ⟨t, ht, e⟩ : ∃ t : Nat, t ≤ 2 ∧ so = nI t := by
          refine ⟨so.toInt.toNat, ?_, ?_⟩
          · omega
          · have : so.toInt ≠ -1 := fun z => e1 (by rw [← Int32.ofInt_toInt so, z]; rfl)
            rw [← ml_iNat (by omega), Int32.ofInt_toInt]
        subst e
        rw [pp_ix_some (show t < 3 by omega) (by decide)] at hq
        dsimp only at hq
        have h40 : n ≤ 40 ↔ ¬ 40 < n.toInt := by rw [Int32.le_iff_toInt_le, show (40 : Int32).toInt = 40 by decide]; omega
        have h00 : 0 ≤ n ↔ ¬ n.toInt < 0 := by rw [Int32.le_iff_toInt_le, show (0 : Int32).toInt = 0 by decide]; omega
        unfold mmw_sheet_34 mmw_sheet_45
        refine ⟨fun z => absurd z (nI_pos (by omega)), fun _ => ⟨fun z => ?_, fun z => ?_⟩⟩
        · rw [if_neg (h40.mp z)] at hq
          refine ⟨fun z => absurd z (nI_pos (by omega)), fun _ => ⟨fun z0 => ⟨fun z => absurd z (nI_pos (by omega)), fun _ => ?_⟩, fun z0 => ?_⟩⟩
          · rw [if_neg (h00.mp z0)] at hq
            obtain ⟨N, hN, e⟩ : ∃ N : Nat, N ≤ 40 ∧ n = nI N := ⟨n.toInt.toNat, by have := h40.mp z; have := h00.mp z0; omega, by rw [← ml_iNat (by have := h00.mp z0; omega), Int32.ofInt_toInt]⟩
            subst e
            rw [nI_toInt (by omega), Int.toNat_natCast] at hq
            exact ms_sheet_59 hk hN ht (fun σ' e z => hq σ' (RM_sh h e z))
          · rw [if_pos (Classical.byContradiction fun q => z0 (h00.mpr q))] at hq
            exact hq σ h
        · rw [if_pos (Classical.byContradiction fun q => z (h40.mpr q))] at hq
          exact hq σ h
    · rw [if_neg (fun z => hs (by rw [z]; decide)), pp_ix_none (by decide) (fun k hk e => hs (by rw [e, nI_toInt (by omega)]; omega))] at hq
      exact hq σ h
  · rw [pp_ix_none (by decide) e] at hq
    exact hq σ h
/-- a value as a sort keeps it -/
def pp_nar (so : Nat) (v : Int32) : Int32 := if so = 0 then v.toInt8.toInt32 else if so = 1 then v.toInt16.toInt32 else v
def po_cell (s : pp_S) (k i v : Int32) : Int32 × pp_S := match pp_ix k 4 with
  | none => (-2, s)
  | some k => match s.sh k with
    | none => (-11, s)
    | some q => match pp_ix i q.2.1 with
      | none => (-12, s)
      | some j => (1, (s.c, s.g, s.t, s.tp, s.im, pp_sup s.sh k (some (q.1, q.2.1, fun x => if x = j then pp_nar q.1 v else q.2.2 x))))
theorem ms_cell {k i v : Int32} (h : RM σ s) (hq : ∀ σ', RM σ' (po_cell s k i v).2 → Q (po_cell s k i v).1 σ') : mmw_cell k i v σ Q := by
  unfold po_cell at hq
  unfold mmw_cell
  refine ms_isSheet (fun k hk e => ml_1 ?_) (fun e => ml_0 ?_)
  · subst e
    rw [pp_ix_some hk (by decide)] at hq
    dsimp only at hq
    have hsh := h.2.2.2.2.2 k hk
    rw [ml_cl (by omega)]
    refine ⟨ml_in hk (by decide), ?_⟩
    cases hs : s.sh k with
    | none =>
      rw [hs] at hsh hq
      have hsh : gg_g σ 18 k = 0 := hsh
      exact ⟨fun _ => hq σ h, fun z => absurd hsh z⟩
    | some q =>
      rw [hs] at hsh hq
      obtain ⟨so, n, it⟩ := q
      obtain ⟨s1, s2, s3, s4, s5, s6⟩ := hsh
      dsimp only at hq
      rw [s1]
      refine ⟨fun z => absurd z (by decide), fun _ => ⟨ml_in hk (by decide), ?_⟩⟩
      refine ms_lt (n := n) (by omega) ?_ (fun j hj e => ml_1 ?_) (fun e => ml_0 ?_)
      · rw [s4, Int32.toInt_toInt64]
        exact pk_sub_toInt (a := n) (b := 1) (by omega) (by omega)
      · subst e
        rw [pp_ix_some hj (by omega)] at hq
        have e0 : nI so = 0 ↔ so = 0 := nI_eq (b := 0) (by omega) (by decide)
        have e1 : nI so = 1 ↔ so = 1 := nI_eq (b := 1) (by omega) (by decide)
        have fin : ∀ v', pp_nar so v = v' → mmw_cell_83 Q (((40 : Int32) * nI k) + nI j) v' σ := by
          intro v' hv
          rw [hv] at hq
          unfold mmw_cell_83
          rw [show (40 : Int32) = nI 40 from rfl, pk_mul, nI_add, ml_cl (by omega)]
          refine ⟨ml_in (by omega) (by decide), ?_⟩
          rintro _ rfl
          refine hq _ (RM_sh h (fun i q a b => by rw [gg_gs, if_neg (fun z => b ⟨z.1, by omega, by omega⟩)]) ?_)
          refine ⟨by rw [gg_gs, if_neg (by omega)]; exact s1, by rw [gg_gs, if_neg (by omega)]; exact s2, s3, by rw [gg_gs, if_neg (by omega)]; exact s4, s5, fun i hi => ?_⟩
          rw [gg_gs]
          by_cases e : i = j
          · rw [if_pos ⟨rfl, by omega⟩]
            exact (if_pos e).symm
          · rw [if_neg (by omega)]
            exact (s6 i hi).trans (if_neg e).symm
        rw [s2, e0, e1]
        refine ⟨ml_in hk (by decide), fun a => fin _ ?_, fun a => ⟨ml_in hk (by decide), fun b => fin _ ?_, fun b => fin _ ?_⟩⟩
        · unfold pp_nar; rw [if_pos a]
        · unfold pp_nar; rw [if_neg a, if_pos b]
        · unfold pp_nar; rw [if_neg a, if_neg b]
      · rw [pp_ix_none (by omega) e] at hq
        exact hq σ h
  · rw [pp_ix_none (by decide) e] at hq
    exact hq σ h
end MY
