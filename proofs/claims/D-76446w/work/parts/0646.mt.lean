/-! THE WHOLE ABSTRACT STATE, the reference's relation to it, and the methods that the law calls -/
/-- core; how many, kinds, numbers; rule, texts; tape; image (how many, core, numbers, rule); sheets (sort, size, items) -/
abbrev pp_S : Type := pp_C × (Nat × (Nat → Nat) × (Nat → Nat)) × (Nat × Nat × (Nat → Nat → pp_F)) × (Nat × (Nat → Int32)) × Option (Nat × pp_C × (Nat → Nat) × Nat) × (Nat → Option (Nat × Nat × (Nat → Int32)))
abbrev pp_S.c (s : pp_S) : pp_C := s.1
abbrev pp_S.g (s : pp_S) : Nat × (Nat → Nat) × (Nat → Nat) := s.2.1
abbrev pp_S.t (s : pp_S) : Nat × Nat × (Nat → Nat → pp_F) := s.2.2.1
abbrev pp_S.tp (s : pp_S) : Nat × (Nat → Int32) := s.2.2.2.1
abbrev pp_S.im (s : pp_S) : Option (Nat × pp_C × (Nat → Nat) × Nat) := s.2.2.2.2.1
abbrev pp_S.sh (s : pp_S) : Nat → Option (Nat × Nat × (Nat → Int32)) := s.2.2.2.2.2
/-- what does not change in gleaning -/
abbrev pp_S.K (s : pp_S) : pp_K := (s.g.1, s.g.2.1, s.g.2.2, s.t.2.2 s.t.1)
abbrev pp_S.setc (s : pp_S) (c : pp_C) : pp_S := (c, s.2)
/-- a number told from outside, below n -/
def pp_ix (x : Int32) (n : Nat) : Option Nat := if 0 ≤ x.toInt ∧ x.toInt < n then some x.toInt.toNat else none
theorem pp_ix_some {k n : Nat} (h : k < n) (hn : n < 2 ^ 31) : pp_ix (nI k) n = some k := by
  unfold pp_ix
  rw [nI_toInt (by omega), if_pos (by omega), Int.toNat_natCast]
theorem pp_ix_none {x : Int32} {n : Nat} (hn : n < 2 ^ 31) (h : ∀ k, k < n → x ≠ nI k) : pp_ix x n = none := by
  unfold pp_ix
  refine if_neg (fun z => h x.toInt.toNat (by omega) ?_)
  rw [← ml_iNat z.1, Int32.ofInt_toInt]
section MT
variable {σ : gg_S} {s : pp_S} {Q : Int32 → gg_S → Prop}
/-- the image that is kept -/
def ma_im (σ : gg_S) (many tc : Nat) : Option (Nat × pp_C × (Nat → Nat) × Nat) → Prop
  | none => gg_g σ 0 40 = -1
  | some (m, c, num, ru) => gg_g σ 0 40 = nI m ∧ m ≤ many ∧ (∀ r, r < 4 → gg_g σ 15 r = nI (c.b r) ∧ gg_g σ 16 r = nI (c.L r) ∧ c.L r ≤ 24 ∧ c.b r < 2 ^ c.L r) ∧
      (∀ p, p < m → gg_g σ 17 (2 * p) = nI (num p) ∧ gg_g σ 17 (2 * p + 1) = nI (c.ap p) ∧ num p ≤ 9 ∧ c.ap p ≤ 999) ∧ gg_g σ 0 41 = nI c.nt ∧ c.nt ≤ 999 ∧ gg_g σ 0 42 = nI ru ∧ ru < tc
/-- a sheet -/
def ma_sh (σ : gg_S) (k : Nat) : Option (Nat × Nat × (Nat → Int32)) → Prop
  | none => gg_g σ 18 k = 0
  | some (so, n, it) => gg_g σ 18 k = 1 ∧ gg_g σ 19 k = nI so ∧ so ≤ 2 ∧ gg_g σ 20 k = nI n ∧ n ≤ 40 ∧ ∀ i, i < n → gg_g σ 21 (40 * k + i) = it i
/-- the reference stands for the state s -/
def RM (σ : gg_S) (s : pp_S) : Prop :=
  ma_C σ s.K s.c ∧ s.c.nt ≤ 999 ∧ (gg_g σ 0 4 = nI s.t.1 ∧ s.t.1 < s.t.2.1 ∧ gg_g σ 0 3 = nI s.t.2.1 ∧ s.t.2.1 ≤ 6 ∧ ∀ t, t < s.t.2.1 → ma_text σ t (s.t.2.2 t)) ∧
  (gg_g σ 0 6 = nI s.tp.1 ∧ s.tp.1 ≤ 160 ∧ pp_by s.tp.2 s.tp.1 ∧ ∀ i, i < s.tp.1 → gg_g σ 3 i = s.tp.2 i) ∧ ma_im σ s.g.1 s.t.2.1 s.im ∧ ∀ k, k < 4 → ma_sh σ k (s.sh k)
/-- the cells that the state is in, beside the core's -/
def ma_out (σ' σ : gg_S) : Prop := ∀ i k, (i = 0 → k ∈ [3, 4, 6, 12, 40, 41, 42]) → i ∈ [0, 1, 2, 3, 15, 16, 17, 18, 19, 20, 21] → gg_g σ' i k = gg_g σ i k
theorem ma_k1_of : ∀ k, k ∈ [3, 4, 6, 12, 40, 41, 42] → k ∈ [3, 4, 6, 12, 35, 36, 40, 41, 42] := by decide
theorem ma_out_fc {x y : gg_S} (h : ma_fc x y) : ma_out x y := fun i k a b => by
  have key : ∀ i, i ∈ [0, 1, 2, 3, 15, 16, 17, 18, 19, 20, 21] → i ∉ [8, 9, 10, 12, 13] ∧ i ≠ 4 ∧ i ≠ 5 ∧ i ≠ 7 := by decide
  obtain ⟨k1, k2, k3, k4⟩ := key i b
  exact h i k (fun z => ma_k1_of k (a z)) k1 (fun z => z.1.elim k2 k3) (fun z => k4 z.1)
theorem ma_out_e1 {S : List Nat} {x y : gg_S} (h : ma_e1 S x y) (hs : ∀ i, i ∈ [0, 1, 2, 3, 15, 16, 17, 18, 19, 20, 21] → i ∉ S) : ma_out x y := fun i k a b => h i k (fun z => ma_k0_of k (ma_k1_of k (a z))) (hs i b)
theorem ma_text_out {x y : gg_S} {t : Nat} {f : Nat → pp_F} (h : ma_text x t f) (e : ma_out y x) : ma_text y t f := by
  obtain ⟨n, n1, n2, n3, n4⟩ := h
  refine ⟨n, n1, by rw [e 2 t (fun z => absurd z (by decide)) (by decide)]; exact n2, ?_⟩
  rw [show (fun i => gg_g y 1 (160 * t + i)) = (fun i => gg_g x 1 (160 * t + i)) from funext fun i => e 1 _ (fun z => absurd z (by decide)) (by decide)]
  exact ⟨n3, n4⟩
theorem ma_im_out {x y : gg_S} {m tc : Nat} {o : Option (Nat × pp_C × (Nat → Nat) × Nat)} (h : ma_im x m tc o) (e : ma_out y x) : ma_im y m tc o := by
  cases o with
  | none =>
    unfold ma_im at h ⊢
    rw [e 0 40 (fun _ => by decide) (by decide)]; exact h
  | some q =>
    obtain ⟨m1, c, num, ru⟩ := q
    unfold ma_im at h ⊢
    obtain ⟨h1, h2, h3, h4, h5, h6, h7, h8⟩ := h
    have g : ∀ i, i ∈ [15, 16, 17] → ∀ k, gg_g y i k = gg_g x i k := fun i hi k => e i k (fun z => absurd hi (by rw [z]; decide)) ((show ∀ i, i ∈ [15, 16, 17] → i ∈ [0, 1, 2, 3, 15, 16, 17, 18, 19, 20, 21] by decide) i hi)
    refine ⟨by rw [e 0 40 (fun _ => by decide) (by decide)]; exact h1, h2, fun r hr => ?_, fun p hp => ?_, by rw [e 0 41 (fun _ => by decide) (by decide)]; exact h5, h6, by rw [e 0 42 (fun _ => by decide) (by decide)]; exact h7, h8⟩
    · rw [g 15 (by decide), g 16 (by decide)]
      exact h3 r hr
    · rw [g 17 (by decide), g 17 (by decide)]
      exact h4 p hp
theorem ma_sh_out {x y : gg_S} {k : Nat} {o : Option (Nat × Nat × (Nat → Int32))} (h : ma_sh x k o) (e : ma_out y x) : ma_sh y k o := by
  have g : ∀ i, i ∈ [18, 19, 20, 21] → ∀ k, gg_g y i k = gg_g x i k := fun i hi k => e i k (fun z => absurd hi (by rw [z]; decide)) ((show ∀ i, i ∈ [18, 19, 20, 21] → i ∈ [0, 1, 2, 3, 15, 16, 17, 18, 19, 20, 21] by decide) i hi)
  cases o with
  | none =>
    unfold ma_sh at h ⊢
    rw [g 18 (by decide)]; exact h
  | some q =>
    obtain ⟨so, n, it⟩ := q
    unfold ma_sh at h ⊢
    rw [g 18 (by decide), g 19 (by decide), g 20 (by decide)]
    exact ⟨h.1, h.2.1, h.2.2.1, h.2.2.2.1, h.2.2.2.2.1, fun i hi => by rw [g 21 (by decide)]; exact h.2.2.2.2.2 i hi⟩
/-- only the core is another -/
theorem RM_core {x y : gg_S} {c : pp_C} (h : RM x s) (e : ma_out y x) (hc : ma_C y s.K c) (hn : c.nt ≤ 999) : RM y (s.setc c) := by
  obtain ⟨h1, h2, ⟨h3, h4, h5, h6, h7⟩, ⟨h8, h9, h10, h11⟩, h12, h13⟩ := h
  refine ⟨hc, hn, ⟨by rw [e 0 4 (fun _ => by decide) (by decide)]; exact h3, h4, by rw [e 0 3 (fun _ => by decide) (by decide)]; exact h5, h6, fun t ht => ma_text_out (h7 t ht) e⟩,
    ⟨by rw [e 0 6 (fun _ => by decide) (by decide)]; exact h8, h9, h10, fun i hi => by rw [e 3 i (fun z => absurd z (by decide)) (by decide)]; exact h11 i hi⟩, ma_im_out h12 e, fun k hk => ma_sh_out (h13 k hk) e⟩
theorem RM_e1 {S : List Nat} {x y : gg_S} (h : RM x s) (e : ma_e1 S y x) (hs : ∀ i, i ∈ [0, 1, 2, 3, 4, 5, 6, 7, 15, 16, 17, 18, 19, 20, 21] → i ∉ S) : RM y s :=
  RM_core h (ma_out_e1 e (fun i hi => hs i ((show ∀ i, i ∈ [0, 1, 2, 3, 15, 16, 17, 18, 19, 20, 21] → i ∈ [0, 1, 2, 3, 4, 5, 6, 7, 15, 16, 17, 18, 19, 20, 21] by decide) i hi)))
    (ma_C_e1 h.1 e (fun i hi => hs i ((show ∀ i, i ∈ [0, 1, 2, 4, 5, 6, 7] → i ∈ [0, 1, 2, 3, 4, 5, 6, 7, 15, 16, 17, 18, 19, 20, 21] by decide) i hi))) h.2.1
theorem RM_th {x y : gg_S} (h : RM x s) (e : ma_th y x) : RM y s := RM_e1 (S := [8, 9, 10, 12, 13, 14]) h e (by decide)
theorem RM_f89 {x y : gg_S} (h : RM x s) (e : ma_f89 y x) : RM y s := RM_e1 (S := [8, 9]) h (fun i k _ b => e i k (fun z => b (by rw [z]; decide)) (fun z => b (by rw [z]; decide))) (by decide)
theorem RM_e0 {x y : gg_S} (h : RM x s) (e : ma_e0 y x) : RM y s := RM_e1 (S := []) h (ma_e1_e0 e) (by decide)
/-! the methods -/
def po_run (s : pp_S) (row k : Int32) : Int32 := match pp_ix row 4 with
  | none => -2
  | some r => match (pp_ix k (pp_runs (s.c.b r) (s.c.L r)).length).bind (fun j => (pp_runs (s.c.b r) (s.c.L r))[j]?) with
    | none => -2
    | some q => nI q.2
def po_tries (s : pp_S) (one row w : Int32) : Int32 := match pp_ix one s.g.1 with
  | none => -100
  | some p => match pp_ix row 4 with
    | none => -100
    | some r => if (pp_ix w 4).isSome then pp_try s.K s.c p r w else -100
def po_glean (s : pp_S) (one row : Int32) : Int32 × pp_S := match pp_ix one s.g.1 with
  | none => (-100, s)
  | some p => match pp_ix row 4 with
    | none => (-100, s)
    | some r => (Int32.ofInt (pp_gr s.K s.c p r).1.2.2.2, s.setc (pp_gc s.K s.c p r))
theorem ms_tries {one row w : Int32} (h : RM σ s) (hq : ∀ σ', RM σ' s → Q (po_tries s one row w) σ') : mmw_tries one row w σ Q := by
  have hm := h.1.1
  unfold po_tries at hq
  unfold mmw_tries
  refine ms_isOne h.1.2.1 hm (fun p hp e => ml_1 ?_) (fun e => ml_0 ?_)
  · subst e
    rw [pp_ix_some hp (by have : s.g.1 ≤ 5 := hm; omega)] at hq
    refine ms_isRow (fun r hr e => ml_1 ?_) (fun e => ml_0 ?_)
    · subst e
      rw [pp_ix_some hr (by decide)] at hq
      refine ms_lt (n := 4) (by decide) (by decide) (fun k hk e => ml_1 ?_) (fun e => ml_0 ?_)
      · subst e
        rw [pp_ix_some hk (by decide)] at hq
        exact ms_triesOf h.1 hp hr (fun σ' e _ => hq σ' (RM_th h e))
      · rw [pp_ix_none (by decide) e] at hq
        exact hq σ h
    · rw [pp_ix_none (by decide) e] at hq
      exact hq σ h
  · rw [pp_ix_none (by have : s.g.1 ≤ 5 := hm; omega) e] at hq
    exact hq σ h
theorem ms_glean {one row : Int32} (h : RM σ s) (hq : ∀ σ', RM σ' (po_glean s one row).2 → Q (po_glean s one row).1 σ') : mmw_glean one row σ Q := by
  have hm := h.1.1
  unfold po_glean at hq
  unfold mmw_glean
  refine ms_isOne h.1.2.1 hm (fun p hp e => ml_1 ?_) (fun e => ml_0 ?_)
  · subst e
    rw [pp_ix_some hp (by have : s.g.1 ≤ 5 := hm; omega)] at hq
    refine ms_isRow (fun r hr e => ml_1 ?_) (fun e => ml_0 ?_)
    · subst e
      rw [pp_ix_some hr (by decide)] at hq
      exact ms_gleansC h.1 hp hr (fun σ' e _ f => hq σ' (RM_core h (ma_out_fc f) e h.2.1))
    · rw [pp_ix_none (by decide) e] at hq
      exact hq σ h
  · rw [pp_ix_none (by have : s.g.1 ≤ 5 := hm; omega) e] at hq
    exact hq σ h
def po_asks (s : pp_S) (one g : Int32) : Int32 := match pp_ix one s.g.1 with
  | none => -100
  | some p => if 1 ≤ g.toInt ∧ g.toInt ≤ 24 then Int32.ofInt (pp_tk (s.K.kd p) (s.K.num p) (s.c.ap p) (ma_say s.K.f 0 99 (ma_env g 0 (nI (s.K.num p)) (nI s.c.nt) (nI (s.c.ap p)) 24)) g.toInt.toNat) else -100
theorem ms_asks {one g : Int32} (h : RM σ s) (hq : ∀ σ', RM σ' s → Q (po_asks s one g) σ') : mmw_asks one g σ Q := by
  have hm := h.1.1
  unfold po_asks at hq
  unfold mmw_asks
  refine ms_isOne h.1.2.1 hm (fun p hp e => ml_1 ?_) (fun e => ml_0 ?_)
  · subst e
    rw [pp_ix_some hp (by have : s.g.1 ≤ 5 := hm; omega)] at hq
    refine ms_inc (a := 1) (z := 24) (by decide) (by decide) (fun hg => ml_1 ?_) (fun hg => ml_0 ?_)
    · dsimp only at hq
      rw [if_pos hg] at hq
      obtain ⟨n, hn, e⟩ : ∃ n : Nat, n ≤ 24 ∧ g = nI n := ⟨g.toInt.toNat, by omega, by rw [← ml_iNat (by omega), Int32.ofInt_toInt]⟩
      subst e
      rw [nI_toInt (by omega), Int.toNat_natCast] at hq
      refine ms_takesOf (f := s.K.f) (by have : s.g.1 ≤ 5 := hm; omega) h.1.2.2.2.2.2 hn (h.1.2.2.2.1 p hp) (fun σ' e => ?_)
      rw [h.1.2.2.2.2.1]
      exact hq σ' (RM_e0 h e)
    · dsimp only at hq
      rw [if_neg hg] at hq
      exact hq σ h
  · rw [pp_ix_none (by have : s.g.1 ≤ 5 := hm; omega) e] at hq
    exact hq σ h
theorem ms_run {row k : Int32} (h : RM σ s) (hq : ∀ σ', RM σ' s → Q (po_run s row k) σ') : mmw_run row k σ Q := by
  unfold po_run at hq
  unfold mmw_run
  refine ms_isRow (fun r hr e => ml_1 ?_) (fun e => ml_0 ?_)
  · subst e
    rw [pp_ix_some hr (by decide)] at hq
    have hrow := h.1.2.2.1 r hr
    have hL := hrow.2.2.1
    have hlen : (pp_runs (s.c.b r) (s.c.L r)).length ≤ s.c.L r := pp_rn_len _ _ _ 0 (by omega)
    have hL' : s.c.L r ≤ 24 := hL
    refine ms_runsOf (by omega) hrow (fun σ' hf hru => ?_)
    dsimp only at hq
    refine ms_lt (n := (pp_runs (s.c.b r) (s.c.L r)).length) (by omega) ?_ (fun j hj e => ml_1 ?_) (fun e => ml_0 ?_)
    · rw [Int32.toInt_toInt64]
      exact pk_sub_toInt (a := (pp_runs (s.c.b r) (s.c.L r)).length) (b := 1) (by omega) (by omega)
    · subst e
      rw [pp_ix_some hj (by omega)] at hq
      have hg : (pp_runs (s.c.b r) (s.c.L r))[j]? = some (pp_runs (s.c.b r) (s.c.L r))[j] := List.getElem?_eq_getElem hj
      have hq' := hq σ' (RM_f89 h hf)
      dsimp only [Option.bind] at hq'
      rw [hg] at hq'
      refine ⟨ml_in (by omega) (by decide), ?_⟩
      rw [ml_cl (by omega), (hru j _ hg).2]
      exact hq'
    · rw [pp_ix_none (by omega) e] at hq
      exact hq σ' (RM_f89 h hf)
  · rw [pp_ix_none (by decide) e] at hq
    exact hq σ h
/-- all gaps -/
def pp_gaps (c : pp_C) : Int32 := pp_left (c.L 0) (c.b 0) + pp_left (c.L 1) (c.b 1) + pp_left (c.L 2) (c.b 2) + pp_left (c.L 3) (c.b 3)
theorem ms_gapsAll {K : pp_K} {c : pp_C} (h : ma_C σ K c) (hq : Q (pp_gaps c) σ) : mmw_gapsAll σ Q := by
  unfold mmw_gapsAll
  exact ms_leftOf (r := 0) (by decide) (h.2.2.1 0 (by decide)) (ms_leftOf (r := 1) (by decide) (h.2.2.1 1 (by decide)) (ms_leftOf (r := 2) (by decide) (h.2.2.1 2 (by decide)) (ms_leftOf (r := 3) (by decide) (h.2.2.1 3 (by decide)) hq)))
def po_night (s : pp_S) : Int32 × pp_S := if s.c.nt = 999 then (-3, s) else (pp_gaps (pp_pass s.K s.c), s.setc (pp_pass s.K s.c))
theorem ms_night (h : RM σ s) (hq : ∀ σ', RM σ' (po_night s).2 → Q (po_night s).1 σ') : mmw_night σ Q := by
  have hn : s.c.nt ≤ 999 := h.2.1
  unfold po_night at hq
  unfold mmw_night
  rw [h.1.2.2.2.2.1, show (999 : Int32) = nI 999 from rfl, nI_eq (by omega) (by decide)]
  refine ⟨fun e => ?_, fun e => ms_passes h.1 (fun σ' hc f => ms_gapsAll hc ?_)⟩
  · rw [if_pos e] at hq
    exact hq σ h
  · rw [if_neg e] at hq
    exact hq σ' (RM_core h (ma_out_fc f) hc (by show s.c.nt + 1 ≤ 999; omega))
def po_nights (s : pp_S) (one row n w : Int32) : Int32 := match pp_ix one s.g.1 with
  | none => -2
  | some p => match pp_ix row 4 with
    | none => -2
    | some r => match pp_ix n 21 with
      | none => -2
      | some m => if (pp_ix w 2).isSome then (if w = 0 then nI ((pp_nts s.K r m s.c).ap p) else pp_left ((pp_nts s.K r m s.c).L r) ((pp_nts s.K r m s.c).b r)) else -2
theorem ms_nights {one row n w : Int32} (h : RM σ s) (hq : ∀ σ', RM σ' s → Q (po_nights s one row n w) σ') : mmw_nights one row n w σ Q := by
  have hm := h.1.1
  have hm' : s.g.1 ≤ 5 := hm
  unfold po_nights at hq
  unfold mmw_nights
  refine ms_isOne h.1.2.1 hm (fun p hp e => ml_1 ?_) (fun e => ml_0 ?_)
  · subst e
    rw [pp_ix_some hp (by omega)] at hq
    refine ms_isRow (fun r hr e => ml_1 ?_) (fun e => ml_0 ?_)
    · subst e
      rw [pp_ix_some hr (by decide)] at hq
      refine ms_lt (n := 21) (by decide) (by decide) (fun m hk e => ml_1 ?_) (fun e => ml_0 ?_)
      · subst e
        rw [pp_ix_some hk (by decide)] at hq
        refine ms_lt (n := 2) (by decide) (by decide) (fun v hv e => ml_1 ?_) (fun e => ml_0 ?_)
        · have e2 : (pp_ix w 2).isSome = true := by rw [e, pp_ix_some hv (by decide)]; rfl
          dsimp only at hq
          rw [if_pos e2] at hq
          refine ms_laysAside (fun s1 f1 w1 => ?_)
          have hc1 : ma_C s1 s.K s.c := ma_C_e1 (S := [14]) h.1 (fun i k _ b => f1 i k (fun z => b (by rw [z]; decide))) (by decide)
          refine ms_gleanNights hr (by omega) hc1 (fun σ2 hc2 f2 => ?_)
          unfold mmw_nights_74
          refine ⟨fun h0 => ⟨by rw [ml_21]; exact ml_in (by omega) (by decide), ms_laysBack f1 w1 f2 (fun σ' ht _ => ?_)⟩, fun h0 => ms_leftOf (by omega) (hc2.2.2.1 r hr) (ms_laysBack f1 w1 f2 (fun σ' ht _ => ?_))⟩
          · rw [if_pos h0] at hq
            rw [ml_21, ml_cl (by omega), (hc2.2.2.2.1 p hp).2.2.1]
            exact hq σ' (RM_th h ht)
          · rw [if_neg h0] at hq
            exact hq σ' (RM_th h ht)
        · rw [pp_ix_none (by decide) e] at hq
          exact hq σ h
      · rw [pp_ix_none (by decide) e] at hq
        exact hq σ h
    · rw [pp_ix_none (by decide) e] at hq
      exact hq σ h
  · rw [pp_ix_none (by omega) e] at hq
    exact hq σ h
def po_count (s : pp_S) (w : Int32) : Int32 := if (pp_ix w 6).isSome then (if w = 0 then nI s.g.1 else if w = 1 then pp_gaps s.c else if w = 2 then nI s.c.nt else if w = 3 then nI s.t.2.1 else if w = 4 then nI s.tp.1 else nI s.t.1) else -2
theorem ms_count {w : Int32} (h : RM σ s) (hq : ∀ σ', RM σ' s → Q (po_count s w) σ') : mmw_count w σ Q := by
  have hq := hq σ h
  unfold po_count at hq
  unfold mmw_count
  refine ms_lt (n := 6) (by decide) (by decide) (fun k hk e => ml_1 ?_) (fun e => ml_0 ?_)
  · have e2 : (pp_ix w 6).isSome = true := by rw [e, pp_ix_some hk (by decide)]; rfl
    rw [if_pos e2] at hq
    refine ⟨fun h0 => ?_, fun h0 => ⟨fun h1 => ms_gapsAll h.1 ?_, fun h1 => ⟨fun h2 => ?_, fun h2 => ⟨fun h3 => ?_, fun h3 => ⟨fun h4 => ?_, fun h4 => ?_⟩⟩⟩⟩⟩
    · rw [if_pos h0] at hq
      rw [h.1.2.1]; exact hq
    · rw [if_neg h0, if_pos h1] at hq
      exact hq
    · rw [if_neg h0, if_neg h1, if_pos h2] at hq
      rw [h.1.2.2.2.2.1]; exact hq
    · rw [if_neg h0, if_neg h1, if_neg h2, if_pos h3] at hq
      rw [h.2.2.1.2.2.1]; exact hq
    · rw [if_neg h0, if_neg h1, if_neg h2, if_neg h3, if_pos h4] at hq
      rw [h.2.2.2.1.1]; exact hq
    · rw [if_neg h0, if_neg h1, if_neg h2, if_neg h3, if_neg h4] at hq
      rw [h.2.2.1.1]; exact hq
  · rw [pp_ix_none (by decide) e] at hq
    exact hq
def po_force (s : pp_S) (t : Int32) : Int32 × pp_S := match pp_ix t s.t.2.1 with
  | none => (-2, s)
  | some k => (nI s.t.1, (s.c, s.g, (k, s.t.2), s.tp, s.im, s.sh))
theorem RM_rule {t : Nat} (h : RM σ s) (ht : t < s.t.2.1) : RM (gg_s σ 0 4 (nI t)) (s.c, s.g, (t, s.t.2), s.tp, s.im, s.sh) := by
  obtain ⟨⟨k1, k2, k3, k4, k5, k6⟩, h2, ⟨h3, h4, h5, h6, h7⟩, ⟨h8, h9, h10, h11⟩, h12, h13⟩ := h
  have ho : ∀ i k, (i = 0 → k ∈ [3, 6, 7, 12, 40, 41, 42]) → gg_g (gg_s σ 0 4 (nI t)) i k = gg_g σ i k := fun i k a => by
    rw [gg_gs, if_neg (fun z => by have := a z.1; rw [z.2] at this; exact absurd this (by decide))]
  have hrow : ∀ i, i ≠ 0 → gg_g (gg_s σ 0 4 (nI t)) i = gg_g σ i := fun i hi => gg_row _ _ _ _ hi
  have htx : ∀ t', ma_text σ t' (s.t.2.2 t') → ma_text (gg_s σ 0 4 (nI t)) t' (s.t.2.2 t') := by
    intro t' z
    unfold ma_text at z ⊢
    rw [hrow 1 (by decide), hrow 2 (by decide)]
    exact z
  refine ⟨⟨k1, by rw [ho 0 12 (fun _ => by decide)]; exact k2, fun r hr => ?_, fun p hp => ?_, by rw [ho 0 7 (fun _ => by decide)]; exact k5, ⟨t, Nat.lt_of_lt_of_le ht h6, gg_me, htx t (h7 t ht)⟩⟩, h2, ⟨gg_me, ht, by rw [ho 0 3 (fun _ => by decide)]; exact h5, h6, fun t' ht' => htx t' (h7 t' ht')⟩,
    ⟨by rw [ho 0 6 (fun _ => by decide)]; exact h8, h9, h10, fun i hi => by rw [hrow 3 (by decide)]; exact h11 i hi⟩, ?_, fun k hk => ?_⟩
  · have z := k3 r hr
    unfold ma_row at z ⊢
    rw [hrow 5 (by decide), hrow 4 (by decide)]
    exact z
  · have z := k4 p hp
    unfold ma_fo at z ⊢
    rw [hrow 6 (by decide), hrow 7 (by decide)]
    exact z
  · show ma_im _ s.g.1 s.t.2.1 s.im
    cases e : s.im with
    | none =>
      rw [e] at h12
      unfold ma_im at h12 ⊢
      rw [ho 0 40 (fun _ => by decide)]; exact h12
    | some q =>
      rw [e] at h12
      obtain ⟨m1, c, num, ru⟩ := q
      unfold ma_im at h12 ⊢
      rw [ho 0 40 (fun _ => by decide), ho 0 41 (fun _ => by decide), ho 0 42 (fun _ => by decide), hrow 15 (by decide), hrow 16 (by decide), hrow 17 (by decide)]
      exact h12
  · show ma_sh _ k (s.sh k)
    have z := h13 k hk
    cases e : s.sh k with
    | none =>
      rw [e] at z
      unfold ma_sh at z ⊢
      rw [hrow 18 (by decide)]; exact z
    | some q =>
      rw [e] at z
      obtain ⟨so, n, it⟩ := q
      unfold ma_sh at z ⊢
      rw [hrow 18 (by decide), hrow 19 (by decide), hrow 20 (by decide), hrow 21 (by decide)]
      exact z
theorem ms_force {t : Int32} (h : RM σ s) (hq : ∀ σ', RM σ' (po_force s t).2 → Q (po_force s t).1 σ') : mmw_force t σ Q := by
  have h3 := h.2.2.1.1
  have h4 := h.2.2.1.2.1
  have h5 := h.2.2.1.2.2.1
  have h6 := h.2.2.1.2.2.2.1
  unfold po_force at hq
  unfold mmw_force
  refine ms_lt (n := s.t.2.1) (by omega) ?_ (fun k hk e => ml_1 ?_) (fun e => ml_0 ?_)
  · rw [h5, Int32.toInt_toInt64]
    exact pk_sub_toInt (a := s.t.2.1) (b := 1) (by omega) (by omega)
  · subst e
    rw [pp_ix_some hk (by omega)] at hq
    rintro _ rfl
    rw [h3]
    exact hq _ (RM_rule h hk)
  · rw [pp_ix_none (by omega) e] at hq
    exact hq σ h
def po_lay (s : pp_S) (row len b : Int32) : Int32 × pp_S := match pp_ix row 4 with
  | none => (-2, s)
  | some r => match pp_ix len 25 with
    | none => (-2, s)
    | some L => match pp_ix b (2 ^ L) with
      | none => (-2, s)
      | some v => (pp_left L v, s.setc (pp_up s.c.b r v, pp_up s.c.L r L, s.c.ap, s.c.nt))
theorem ms_lay {row len b : Int32} (h : RM σ s) (hq : ∀ σ', RM σ' (po_lay s row len b).2 → Q (po_lay s row len b).1 σ') : mmw_lay row len b σ Q := by
  unfold po_lay at hq
  unfold mmw_lay
  refine ms_isRow (fun r hr e => ml_1 ?_) (fun e => ml_0 ?_)
  · subst e
    rw [pp_ix_some hr (by decide)] at hq
    refine ms_lt (n := 25) (by decide) (by decide) (fun L hL e => ml_1 ?_) (fun e => ml_0 ?_)
    · subst e
      rw [pp_ix_some hL (by decide)] at hq
      dsimp only at hq
      have hp : (2 : Nat) ^ L ≤ 2 ^ 24 := Nat.pow_le_pow_right (by decide) (by omega)
      have hp0 := Nat.two_pow_pos L
      refine ms_lt (n := 2 ^ L) (by omega) ?_ (fun v hv e => ml_1 ?_) (fun e => ml_0 ?_)
      · rw [show (1 : Int32) = nI 1 from rfl, ml_shl (by omega) (by omega), Nat.one_mul, Int32.toInt_toInt64]
        exact pk_sub_toInt (a := 2 ^ L) (b := 1) (by omega) (by omega)
      · subst e
        rw [pp_ix_some hv (by omega)] at hq
        refine ⟨ml_in (by omega) (by decide), ?_⟩
        rintro _ rfl
        refine ⟨ml_in (by omega) (by decide), ?_⟩
        rintro _ rfl
        rw [ml_cl (by omega)]
        have hrow : ma_row (gg_s (gg_s σ 4 r (nI v)) 5 r (nI L)) r L v := by
          refine ⟨by rw [gg_gs, if_pos ⟨rfl, rfl⟩], by rw [gg_gs, if_neg (fun z => absurd z.1 (by decide)), gg_gs, if_pos ⟨rfl, rfl⟩], by omega, hv⟩
        refine ms_leftOf (by omega) hrow (hq _ (RM_core h (fun i k _ hi => ?_) ?_ h.2.1))
        · rw [gg_gs, if_neg (fun z => absurd hi (by rw [z.1]; decide)), gg_gs, if_neg (fun z => absurd hi (by rw [z.1]; decide))]
        · have f : ma_e1 [4, 5] (gg_s (gg_s σ 4 r (nI v)) 5 r (nI L)) σ := ma_e1_tr (ma_e1_s (by decide)) (ma_e1_s (by decide))
          obtain ⟨k1, k2, k3, k4, k5, k6⟩ := h.1
          refine ⟨k1, by rw [f 0 12 (fun _ => by decide) (by decide)]; exact k2, fun q hq' => ?_, fun p hp' => ?_, by rw [f 0 7 (fun _ => by decide) (by decide)]; exact k5, ma_tx_e1 k6 f (by decide) (by decide) (by decide)⟩
          · show ma_row _ q (pp_up s.c.L r L q) (pp_up s.c.b r v q)
            unfold pp_up
            by_cases e : q = r
            · rw [if_pos e, if_pos e, e]
              exact hrow
            · rw [if_neg e, if_neg e]
              have z := k3 q hq'
              unfold ma_row at z ⊢
              rw [gg_gs, if_neg (fun z => e z.2), gg_gs, if_neg (fun z => absurd z.1 (by decide)), gg_gs, if_neg (fun z => absurd z.1 (by decide)), gg_gs, if_neg (fun z => e z.2)]
              exact z
          · have z := k4 p hp'
            unfold ma_fo at z ⊢
            rw [f 6 _ (fun z => absurd z (by decide)) (by decide), f 7 _ (fun z => absurd z (by decide)) (by decide), f 7 _ (fun z => absurd z (by decide)) (by decide)]
            exact z
      · rw [pp_ix_none (by omega) e] at hq
        exact hq σ h
    · rw [pp_ix_none (by decide) e] at hq
      exact hq σ h
  · rw [pp_ix_none (by decide) e] at hq
    exact hq σ h
def po_told (s : pp_S) (x w : Int32) : Int32 := match pp_ix w 11 with
  | none => -2
  | some w => if w = 0 then nI s.c.nt
    else if w < 5 then match pp_ix x s.g.1 with
      | none => -2
      | some p => if w < 3 then (if w = 1 then nI (s.K.num p) else nI (s.c.ap p)) else if w = 3 then nI (s.K.kd p) else nI (pp_keep s.K s.c p)
    else match pp_ix x 4 with
      | none => -2
      | some r => if w < 8 then (if w = 5 then nI (s.c.L r) else if w = 6 then nI (s.c.b r) else pp_left (s.c.L r) (s.c.b r))
        else if w = 8 then nI (pp_runs (s.c.b r) (s.c.L r)).length else if w = 9 then nI (pp_gt (pp_runs (s.c.b r) (s.c.L r)) 0) else nI (pp_shake s.K s.c r)
theorem ms_told {x w : Int32} (h : RM σ s) (hq : ∀ σ', ma_e1 [8, 9] σ' σ → RM σ' s → Q (po_told s x w) σ') : mmw_told x w σ Q := by
  have hm' : s.g.1 ≤ 5 := h.1.1
  unfold po_told at hq
  unfold mmw_told
  refine ms_lt (n := 11) (by decide) (by decide) (fun k hk e => ml_1 ?_) (fun e => ml_0 ?_)
  · subst e
    rw [pp_ix_some hk (by decide)] at hq
    dsimp only at hq
    unfold mmw_told_42
    rw [show (5 : Int32) = nI 5 from rfl, show (8 : Int32) = nI 8 from rfl, show (3 : Int32) = nI 3 from rfl, show (0 : Int32) = nI 0 from rfl, show (9 : Int32) = nI 9 from rfl, show (6 : Int32) = nI 6 from rfl,
      nI_leI (by omega) (by omega), nI_leI (by omega) (by omega), nI_leI (by omega) (by omega), nI_leI (by omega) (by omega), nI_eq (by omega) (by omega), nI_eq (by omega) (by omega), nI_eq (by omega) (by omega), nI_eq (by omega) (by omega), nI_eq (by omega) (by omega), nI_eq (by omega) (by omega)]
    refine ⟨fun h0 => ⟨fun z => by omega, fun _ => ⟨fun _ => ?_, fun z => by omega⟩⟩, fun h0 => ?_⟩
    · rw [if_pos (by omega)] at hq
      rw [h.1.2.2.2.2.1]
      exact hq σ ma_e1_rf h
    · rw [if_neg (by omega)] at hq
      refine ⟨fun h5 => ?_, fun h5 => ?_⟩
      · rw [if_neg (by omega)] at hq
        refine ms_isRow (fun r hr e => ml_1 ?_) (fun e => ml_0 ?_)
        · subst e
          rw [pp_ix_some hr (by decide)] at hq
          dsimp only at hq
          have hrow := h.1.2.2.1 r hr
          have e89 : ∀ σ', ma_f89 σ' σ → ma_e1 [8, 9] σ' σ := fun σ' e i k _ b => e i k (fun z => b (by rw [z]; decide)) (fun z => b (by rw [z]; decide))
          refine ⟨fun _ => ⟨fun h8 => ?_, fun h8 => ?_⟩, fun z => absurd h5 z⟩
          · rw [if_neg (by omega)] at hq
            refine ⟨fun e => ms_runsOf (by omega) hrow (fun σ' hf _ => ?_), fun n8 => ⟨fun e => ms_greatestOf (by omega) hrow (fun σ' hf => ?_), fun n9 => ms_shakenOf h.1 hr (fun σ' he => ?_)⟩⟩
            · rw [if_pos e] at hq
              exact hq σ' (e89 σ' hf) (RM_f89 h hf)
            · rw [if_neg n8, if_pos e] at hq
              exact hq σ' (e89 σ' hf) (RM_f89 h hf)
            · rw [if_neg n8, if_neg n9] at hq
              exact hq σ' (ma_e1_e0 he) (RM_e0 h he)
          · rw [if_pos (by omega)] at hq
            rw [ml_cl (by omega)]
            refine ⟨fun e => ⟨ml_in (by omega) (by decide), ?_⟩, fun n5 => ⟨fun e => ⟨ml_in (by omega) (by decide), ?_⟩, fun n6 => ms_leftOf (by omega) hrow ?_⟩⟩
            · rw [if_pos e] at hq
              rw [hrow.1]
              exact hq σ ma_e1_rf h
            · rw [if_neg n5, if_pos e] at hq
              rw [hrow.2.1]
              exact hq σ ma_e1_rf h
            · rw [if_neg n5, if_neg n6] at hq
              exact hq σ ma_e1_rf h
        · rw [pp_ix_none (by decide) e] at hq
          exact hq σ ma_e1_rf h
      · rw [if_pos (by omega)] at hq
        refine ms_isOne h.1.2.1 hm' (fun p hp e => ml_1 ?_) (fun e => ml_0 ?_)
        · subst e
          rw [pp_ix_some (n := s.g.1) hp (by omega)] at hq
          dsimp only at hq
          obtain ⟨o1, o2, o3, o4⟩ := h.1.2.2.2.1 p hp
          have hp' : p < s.g.1 := hp
          refine ⟨fun z => absurd z h5, fun _ => ⟨fun z => by omega, fun _ => ⟨fun h3 => ?_, fun h3 => ?_⟩⟩⟩
          · rw [if_neg (by omega)] at hq
            refine ⟨fun e => ⟨ml_in (by omega) (by decide), ?_⟩, fun n3 => ms_keepsOf h.1 hp (fun σ' he => ?_)⟩
            · rw [if_pos e] at hq
              rw [ml_cl (by omega), o1]
              exact hq σ ma_e1_rf h
            · rw [if_neg n3] at hq
              exact hq σ' (ma_e1_e0 he) (RM_e0 h he)
          · rw [if_pos (by omega)] at hq
            rw [ml_2, nI_add, show (1 : Int32) = nI 1 from rfl, pk_sub (by omega), ml_cl (by omega)]
            refine ⟨ml_in (by omega) (by decide), ?_⟩
            by_cases e1 : k = 1
            · rw [if_pos e1] at hq
              rw [show 2 * p + k - 1 = 2 * p by omega, o2]
              exact hq σ ma_e1_rf h
            · rw [if_neg e1] at hq
              rw [show 2 * p + k - 1 = 2 * p + 1 by omega, o3]
              exact hq σ ma_e1_rf h
        · rw [pp_ix_none (n := s.g.1) (by omega) e] at hq
          exact hq σ ma_e1_rf h
  · rw [pp_ix_none (by decide) e] at hq
    exact hq σ ma_e1_rf h
theorem RM_tape {y : gg_S} {tp : Nat × (Nat → Int32)} (h : RM σ s) (ho : ∀ k, k ∈ [3, 4, 7, 12, 40, 41, 42] → gg_g y 0 k = gg_g σ 0 k) (hrow : ∀ i, i ≠ 0 → i ≠ 3 → gg_g y i = gg_g σ i)
    (ht : gg_g y 0 6 = nI tp.1 ∧ tp.1 ≤ 160 ∧ pp_by tp.2 tp.1 ∧ ∀ i, i < tp.1 → gg_g y 3 i = tp.2 i) : RM y (s.c, s.g, s.t, tp, s.im, s.sh) := by
  obtain ⟨⟨k1, k2, k3, k4, k5, k6⟩, h2, ⟨h3, h4, h5, h6, h7⟩, _, h12, h13⟩ := h
  have htx : ∀ t' f, ma_text σ t' f → ma_text y t' f := by
    intro t' f z
    unfold ma_text at z ⊢
    rw [hrow 1 (by decide) (by decide), hrow 2 (by decide) (by decide)]
    exact z
  refine ⟨⟨k1, by rw [ho 12 (by decide)]; exact k2, fun r hr => ?_, fun p hp => ?_, by rw [ho 7 (by decide)]; exact k5, ?_⟩, h2, ⟨by rw [ho 4 (by decide)]; exact h3, h4, by rw [ho 3 (by decide)]; exact h5, h6, fun t' ht' => htx t' _ (h7 t' ht')⟩, ht, ?_, fun k hk => ?_⟩
  · have z := k3 r hr
    unfold ma_row at z ⊢
    rw [hrow 5 (by decide) (by decide), hrow 4 (by decide) (by decide)]
    exact z
  · have z := k4 p hp
    unfold ma_fo at z ⊢
    rw [hrow 6 (by decide) (by decide), hrow 7 (by decide) (by decide)]
    exact z
  · obtain ⟨t, t1, t2, t3⟩ := k6
    exact ⟨t, t1, by rw [ho 4 (by decide)]; exact t2, htx t _ t3⟩
  · show ma_im _ s.g.1 s.t.2.1 s.im
    cases e : s.im with
    | none =>
      rw [e] at h12
      unfold ma_im at h12 ⊢
      rw [ho 40 (by decide)]; exact h12
    | some q =>
      rw [e] at h12
      obtain ⟨m1, c, num, ru⟩ := q
      unfold ma_im at h12 ⊢
      rw [ho 40 (by decide), ho 41 (by decide), ho 42 (by decide), hrow 15 (by decide) (by decide), hrow 16 (by decide) (by decide), hrow 17 (by decide) (by decide)]
      exact h12
  · show ma_sh _ k (s.sh k)
    have z := h13 k hk
    cases e : s.sh k with
    | none =>
      rw [e] at z
      unfold ma_sh at z ⊢
      rw [hrow 18 (by decide) (by decide)]; exact z
    | some q =>
      rw [e] at z
      obtain ⟨so, n, it⟩ := q
      unfold ma_sh at z ⊢
      rw [hrow 18 (by decide) (by decide), hrow 19 (by decide) (by decide), hrow 20 (by decide) (by decide), hrow 21 (by decide) (by decide)]
      exact z
def po_feed (s : pp_S) (a : Int32) : Int32 × pp_S :=
  if 0 ≤ a.toInt ∧ a.toInt ≤ 255 then (if s.tp.1 = 160 then (-4, s) else (nI (s.tp.1 + 1), (s.c, s.g, s.t, (s.tp.1 + 1, fun i => if i = s.tp.1 then a else s.tp.2 i), s.im, s.sh))) else (-2, s)
theorem ms_feed {a : Int32} (h : RM σ s) (hq : ∀ σ', RM σ' (po_feed s a).2 → Q (po_feed s a).1 σ') : mmw_feed a σ Q := by
  obtain ⟨h8, h9, h10, h11⟩ := h.2.2.2.1
  unfold po_feed at hq
  unfold mmw_feed
  refine ms_inc (a := 0) (z := 255) (by decide) (by decide) (fun ha => ml_1 ?_) (fun ha => ml_0 ?_)
  · rw [if_pos ha] at hq
    rw [h8, show (160 : Int32) = nI 160 from rfl, nI_eq (by omega) (by decide)]
    refine ⟨fun e => ?_, fun e => ⟨ml_in (by omega) (by decide), ?_⟩⟩
    · rw [if_pos e] at hq
      exact hq σ h
    · rw [if_neg e] at hq
      rintro _ rfl _ rfl
      rw [ml_cl (by omega), gg_row _ 3 _ _ (show (0 : Nat) ≠ 3 by decide), h8, nI_1, gg_me]
      refine hq _ (RM_tape h (fun k hk => ?_) (fun i h0 h3 => ?_) ⟨gg_me, by show s.tp.1 + 1 ≤ 160; omega, fun i hi => ?_, fun i hi => ?_⟩)
      · rw [gg_ot (fun z => absurd hk (by rw [z]; decide)), gg_row _ 3 _ _ (show (0 : Nat) ≠ 3 by decide)]
      · rw [gg_row _ _ _ _ h0, gg_row _ _ _ _ h3]
      · show 0 ≤ (if i = s.tp.1 then a else s.tp.2 i).toInt ∧ (if i = s.tp.1 then a else s.tp.2 i).toInt ≤ 255
        by_cases e : i = s.tp.1
        · rw [if_pos e]; exact ha
        · rw [if_neg e]
          exact h10 i (by have : i < s.tp.1 + 1 := hi; omega)
      · show gg_g _ 3 i = (if i = s.tp.1 then a else s.tp.2 i)
        rw [gg_row _ 0 _ _ (show (3 : Nat) ≠ 0 by decide), gg_gs]
        by_cases e : i = s.tp.1
        · rw [if_pos e, if_pos ⟨rfl, e⟩]
        · rw [if_neg e, if_neg (fun z => e z.2)]
          exact h11 i (by have : i < s.tp.1 + 1 := hi; omega)
  · rw [if_neg ha] at hq
    exact hq σ h
/-- the row (and what) that one would take the most of, from row k on -/
def pp_rf (K : pp_K) (c : pp_C) (p : Nat) : Nat → Nat → Int32 → Int32 → Int32 × Int32
  | 0, _, f, m => (f, m)
  | d + 1, k, f, m => if f = -1 ∨ m < pp_try K c p k 0 then pp_rf K c p d (k + 1) (nI k) (pp_try K c p k 0) else pp_rf K c p d (k + 1) f m
def po_rowFor (s : pp_S) (one w : Int32) : Int32 := match pp_ix one s.g.1 with
  | none => -1000
  | some p => if (pp_ix w 2).isSome then (if w = 0 then (pp_rf s.K s.c p 4 0 (-1) 0).1 else (pp_rf s.K s.c p 4 0 (-1) 0).2) else -1000
theorem ms_rowFor_30 {p : Nat} {w : Int32} (hp : p < s.g.1) (d : Nat) : ∀ (k : Nat) (f m : Int32) (σ : gg_S), k + d = 4 → RM σ s → (∀ σ', RM σ' s → Q (if w = 0 then (pp_rf s.K s.c p d k f m).1 else (pp_rf s.K s.c p d k f m).2) σ') → mmw_rowFor_30 Q (d + 1) (nI p) w f m (nI k) σ := by
  induction d with
  | zero =>
    intro k f m σ h1 h hq
    unfold mmw_rowFor_30
    rw [show (4 : Int32) = nI 4 from rfl, nI_leI (by omega) (by omega)]
    refine ⟨fun _ => ⟨fun e => ?_, fun e => ?_⟩, fun z => absurd (show 4 ≤ k by omega) z⟩
    · have := hq σ h
      rw [if_pos e] at this
      exact this
    · have := hq σ h
      rw [if_neg e] at this
      exact this
  | succ d ih =>
    intro k f m σ h1 h hq
    unfold mmw_rowFor_30
    rw [show (4 : Int32) = nI 4 from rfl, nI_leI (by omega) (by omega)]
    refine ⟨fun z => by omega, fun _ => ms_triesOf h.1 hp (by omega) (fun σ' e _ => ?_)⟩
    have h' := RM_th h e
    unfold pp_rf at hq
    unfold mmw_rowFor_58
    rw [nI_1]
    refine ⟨fun e => ?_, fun e => ⟨fun hle => ?_, fun hle => ?_⟩⟩
    · rw [if_pos (Or.inl e)] at hq
      exact ih (k + 1) _ _ σ' (by omega) h' hq
    · rw [if_neg (show ¬ (f = -1 ∨ m < pp_try s.K s.c p k 0) from fun z => z.elim e (fun z => absurd hle (Int32.not_le.mpr z)))] at hq
      exact ih (k + 1) _ _ σ' (by omega) h' hq
    · rw [if_pos (Or.inr (Int32.not_le.mp hle))] at hq
      exact ih (k + 1) _ _ σ' (by omega) h' hq
theorem ms_rowFor {one w : Int32} (h : RM σ s) (hq : ∀ σ', RM σ' s → Q (po_rowFor s one w) σ') : mmw_rowFor one w σ Q := by
  have hm' : s.g.1 ≤ 5 := h.1.1
  unfold po_rowFor at hq
  unfold mmw_rowFor
  refine ms_isOne (n := s.g.1) h.1.2.1 hm' (fun p hp e => ml_1 ?_) (fun e => ml_0 ?_)
  · subst e
    rw [pp_ix_some (n := s.g.1) hp (by omega)] at hq
    dsimp only at hq
    refine ms_lt (n := 2) (by decide) (by decide) (fun k hk e => ml_1 ?_) (fun e => ml_0 ?_)
    · have e2 : (pp_ix w 2).isSome = true := by rw [e, pp_ix_some hk (by decide)]; rfl
      rw [if_pos e2] at hq
      exact ⟨5, ms_rowFor_30 hp 4 0 (-1) 0 σ (by decide) h hq⟩
    · rw [pp_ix_none (by decide) e] at hq
      exact hq σ h
  · rw [pp_ix_none (n := s.g.1) (by omega) e] at hq
    exact hq σ h
/-- gleaners' numbers are others -/
theorem RM_num {y : gg_S} {num : Nat → Nat} (h : RM σ s) (e : ma_out y σ) (hc : ma_C y (s.g.1, s.g.2.1, num, s.t.2.2 s.t.1) s.c) : RM y (s.c, (s.g.1, s.g.2.1, num), s.t, s.tp, s.im, s.sh) := by
  obtain ⟨h1, h2, ⟨h3, h4, h5, h6, h7⟩, ⟨h8, h9, h10, h11⟩, h12, h13⟩ := h
  exact ⟨hc, h2, ⟨by rw [e 0 4 (fun _ => by decide) (by decide)]; exact h3, h4, by rw [e 0 3 (fun _ => by decide) (by decide)]; exact h5, h6, fun t ht => ma_text_out (h7 t ht) e⟩,
    ⟨by rw [e 0 6 (fun _ => by decide) (by decide)]; exact h8, h9, h10, fun i hi => by rw [e 3 i (fun z => absurd z (by decide)) (by decide)]; exact h11 i hi⟩, ma_im_out h12 e, fun k hk => ma_sh_out (h13 k hk) e⟩
theorem ma_C_row7 {K : pp_K} {c : pp_C} {p n : Nat} (h : ma_C σ K c) (hp : p < K.many) : (n ≤ 9 → ma_C (gg_s σ 7 (2 * p) (nI n)) (K.1, K.2.1, pp_up K.num p n, K.2.2.2) c) ∧ (n ≤ 999 → ma_C (gg_s σ 7 (2 * p + 1) (nI n)) K (c.b, c.L, pp_up c.ap p n, c.nt)) := by
  have f : ∀ q v, ma_e1 [7] (gg_s σ 7 q v) σ := fun q v => ma_e1_s (by decide)
  obtain ⟨k1, k2, k3, k4, k5, k6⟩ := h
  have hr : ∀ q v r, r < 4 → ma_row (gg_s σ 7 q v) r (c.L r) (c.b r) := fun q v r hr => by
    have z := k3 r hr
    unfold ma_row at z ⊢
    rw [f q v 5 _ (fun z => absurd z (by decide)) (by decide), f q v 4 _ (fun z => absurd z (by decide)) (by decide)]
    exact z
  constructor
  · intro hn
    refine ⟨k1, by rw [f _ _ 0 12 (fun _ => by decide) (by decide)]; exact k2, hr _ _, fun q hq => ?_, by rw [f _ _ 0 7 (fun _ => by decide) (by decide)]; exact k5, ma_tx_e1 k6 (f _ _) (by decide) (by decide) (by decide)⟩
    obtain ⟨o1, o2, o3, o4, o5, o6⟩ := k4 q hq
    show ma_fo _ q (K.kd q) (pp_up K.num p n q) (c.ap q)
    unfold pp_up
    refine ⟨by rw [f _ _ 6 _ (fun z => absurd z (by decide)) (by decide)]; exact o1, ?_, by rw [gg_gs, if_neg (by omega)]; exact o3, o4, ?_, o6⟩
    · by_cases e : q = p
      · rw [if_pos e, gg_gs, if_pos ⟨rfl, by omega⟩]
      · rw [if_neg e, gg_gs, if_neg (by omega)]; exact o2
    · by_cases e : q = p
      · rw [if_pos e]; exact hn
      · rw [if_neg e]; exact o5
  · intro hn
    refine ⟨k1, by rw [f _ _ 0 12 (fun _ => by decide) (by decide)]; exact k2, hr _ _, fun q hq => ?_, by rw [f _ _ 0 7 (fun _ => by decide) (by decide)]; exact k5, ma_tx_e1 k6 (f _ _) (by decide) (by decide) (by decide)⟩
    obtain ⟨o1, o2, o3, o4, o5, o6⟩ := k4 q hq
    show ma_fo _ q (K.kd q) (K.num q) (pp_up c.ap p n q)
    unfold pp_up
    refine ⟨by rw [f _ _ 6 _ (fun z => absurd z (by decide)) (by decide)]; exact o1, by rw [gg_gs, if_neg (by omega)]; exact o2, ?_, o4, o5, ?_⟩
    · by_cases e : q = p
      · rw [if_pos e, gg_gs, if_pos ⟨rfl, by omega⟩]
      · rw [if_neg e, gg_gs, if_neg (by omega)]; exact o3
    · by_cases e : q = p
      · rw [if_pos e]; exact hn
      · rw [if_neg e]; exact o6
theorem ma_C_nt {K : pp_K} {c : pp_C} {n : Nat} (h : ma_C σ K c) : ma_C (gg_s σ 0 7 (nI n)) K (c.b, c.L, c.ap, n) := by
  have hrow : ∀ i, i ≠ 0 → gg_g (gg_s σ 0 7 (nI n)) i = gg_g σ i := fun i hi => gg_row _ _ _ _ hi
  obtain ⟨k1, k2, k3, k4, k5, k6⟩ := h
  refine ⟨k1, by rw [gg_ot (by decide)]; exact k2, fun r hr => ?_, fun p hp => ?_, gg_me, ?_⟩
  · have z := k3 r hr
    unfold ma_row at z ⊢
    rw [hrow 5 (by decide), hrow 4 (by decide)]
    exact z
  · have z := k4 p hp
    unfold ma_fo at z ⊢
    rw [hrow 6 (by decide), hrow 7 (by decide)]
    exact z
  · obtain ⟨t, t1, t2, t3⟩ := k6
    refine ⟨t, t1, by rw [gg_ot (by decide)]; exact t2, ?_⟩
    unfold ma_text at t3 ⊢
    rw [hrow 1 (by decide), hrow 2 (by decide)]
    exact t3
def po_set (s : pp_S) (w x v : Int32) : Int32 × pp_S := match pp_ix w 3 with
  | none => (-2, s)
  | some k => if k = 0 then match pp_ix v 1000 with
      | none => (-2, s)
      | some n => (po_told s x w, s.setc (s.c.b, s.c.L, s.c.ap, n))
    else match pp_ix x s.g.1 with
      | none => (-2, s)
      | some p => if k = 1 then match pp_ix v 10 with
          | none => (-2, s)
          | some n => (po_told s x w, (s.c, (s.g.1, s.g.2.1, pp_up s.g.2.2 p n), s.t, s.tp, s.im, s.sh))
        else match pp_ix v 1000 with
          | none => (-2, s)
          | some n => (po_told s x w, s.setc (s.c.b, s.c.L, pp_up s.c.ap p n, s.c.nt))
theorem ms_set {w x v : Int32} (h : RM σ s) (hq : ∀ σ', RM σ' (po_set s w x v).2 → Q (po_set s w x v).1 σ') : mmw_set w x v σ Q := by
  have hm' : s.g.1 ≤ 5 := h.1.1
  have out7 : ∀ (τ : gg_S) q v, ma_out (gg_s τ 7 q v) τ := fun τ q v i k _ hi => by rw [gg_gs, if_neg (fun z => absurd hi (by rw [z.1]; decide))]
  unfold po_set at hq
  unfold mmw_set
  refine ms_lt (n := 3) (by decide) (by decide) (fun k hk e => ml_1 ?_) (fun e => ml_0 ?_)
  · subst e
    rw [pp_ix_some hk (by decide)] at hq
    dsimp only at hq
    unfold mmw_set_24 mmw_mostOf
    rcases (show k = 0 ∨ k = 1 ∨ k = 2 by omega) with rfl | rfl | rfl
    · rw [if_pos rfl] at hq
      refine ⟨fun _ => ⟨fun z => absurd z (by decide), fun _ => ms_lt (n := 1000) (by decide) (by decide) (fun n hn e => ml_1 ?_) (fun e => ml_0 ?_)⟩, fun z => absurd (by decide) z⟩
      · subst e
        rw [pp_ix_some hn (by decide)] at hq
        refine ms_told h (fun σ' _ h' => ?_)
        unfold mmw_lays
        refine ⟨fun _ => ?_, fun z => absurd (by decide) z⟩
        rintro _ rfl
        refine hq _ (RM_core h' (fun i k a _ => ?_) (ma_C_nt h'.1) (by show n ≤ 999; omega))
        rw [gg_gs, if_neg (fun z => by have := a z.1; rw [z.2] at this; exact absurd this (by decide))]
      · rw [pp_ix_none (by decide) e] at hq
        exact hq σ h
    · rw [if_neg (by decide)] at hq
      refine ⟨fun z => absurd z (by decide), fun _ => ms_isOne (n := s.g.1) h.1.2.1 hm' (fun p hp e => ml_1 ⟨fun _ => ?_, fun z => absurd (by decide) z⟩) (fun e => ml_0 ?_)⟩
      · subst e
        rw [pp_ix_some (n := s.g.1) hp (by omega)] at hq
        dsimp only at hq
        rw [if_pos rfl] at hq
        refine ms_lt (n := 10) (by decide) (by decide) (fun n hn e => ml_1 ?_) (fun e => ml_0 ?_)
        · subst e
          rw [pp_ix_some hn (by decide)] at hq
          refine ms_told h (fun σ' _ h' => ?_)
          unfold mmw_lays
          refine ⟨fun z => absurd z (by decide), fun _ => ⟨fun z => absurd z (by decide), fun _ => ?_⟩⟩
          rw [ml_2, nI_add, show (1 : Int32) = nI 1 from rfl, pk_sub (by omega), show 2 * p + 1 - 1 = 2 * p by omega, ml_cl (by omega)]
          refine ⟨ml_in (by omega) (by decide), ?_⟩
          rintro _ rfl
          exact hq _ (RM_num h' (out7 _ _ _) ((ma_C_row7 h'.1 hp).1 (by omega)))
        · rw [pp_ix_none (by decide) e] at hq
          exact hq σ h
      · rw [pp_ix_none (n := s.g.1) (by omega) e] at hq
        exact hq σ h
    · rw [if_neg (by decide)] at hq
      refine ⟨fun z => absurd z (by decide), fun _ => ms_isOne (n := s.g.1) h.1.2.1 hm' (fun p hp e => ml_1 ⟨fun z => absurd z (by decide), fun _ => ?_⟩) (fun e => ml_0 ?_)⟩
      · subst e
        rw [pp_ix_some (n := s.g.1) hp (by omega)] at hq
        dsimp only at hq
        rw [if_neg (by decide)] at hq
        refine ms_lt (n := 1000) (by decide) (by decide) (fun n hn e => ml_1 ?_) (fun e => ml_0 ?_)
        · subst e
          rw [pp_ix_some hn (by decide)] at hq
          refine ms_told h (fun σ' _ h' => ?_)
          unfold mmw_lays
          refine ⟨fun z => absurd z (by decide), fun _ => ⟨fun z => absurd z (by decide), fun _ => ?_⟩⟩
          rw [ml_2, nI_add, show (1 : Int32) = nI 1 from rfl, pk_sub (by omega), show 2 * p + 2 - 1 = 2 * p + 1 by omega, ml_cl (by omega)]
          refine ⟨ml_in (by omega) (by decide), ?_⟩
          rintro _ rfl
          exact hq _ (RM_core h' (out7 _ _ _) ((ma_C_row7 h'.1 hp).2 (by omega)) h'.2.1)
        · rw [pp_ix_none (by decide) e] at hq
          exact hq σ h
      · rw [pp_ix_none (n := s.g.1) (by omega) e] at hq
        exact hq σ h
  · rw [pp_ix_none (by decide) e] at hq
    exact hq σ h
def po_gleaner (s : pp_S) (kd num : Int32) : Int32 × pp_S := match pp_ix kd 6 with
  | none => (-2, s)
  | some k => match pp_ix num 10 with
    | none => (-2, s)
    | some n => if s.g.1 = 5 then (-4, s) else (nI s.g.1, ((s.c.b, s.c.L, pp_up s.c.ap s.g.1 0, s.c.nt), (s.g.1 + 1, pp_up s.g.2.1 s.g.1 k, pp_up s.g.2.2 s.g.1 n), s.t, s.tp, s.im, s.sh))
theorem RM_more {y : gg_S} {k n : Nat} (h : RM σ s) (hm : s.g.1 < 5) (hk : k ≤ 5) (hn : n ≤ 9) (ho : ∀ q, q ∈ [3, 4, 6, 7, 40, 41, 42] → gg_g y 0 q = gg_g σ 0 q) (h12 : gg_g y 0 12 = nI (s.g.1 + 1))
    (hrow : ∀ i, i ≠ 0 → i ≠ 6 → i ≠ 7 → gg_g y i = gg_g σ i) (h6 : ∀ q, gg_g y 6 q = if q = s.g.1 then nI k else gg_g σ 6 q) (h7 : ∀ q, gg_g y 7 q = if q = 2 * s.g.1 then nI n else if q = 2 * s.g.1 + 1 then nI 0 else gg_g σ 7 q) :
    RM y ((s.c.b, s.c.L, pp_up s.c.ap s.g.1 0, s.c.nt), (s.g.1 + 1, pp_up s.g.2.1 s.g.1 k, pp_up s.g.2.2 s.g.1 n), s.t, s.tp, s.im, s.sh) := by
  obtain ⟨⟨k1, k2, k3, k4, k5, k6⟩, h2, ⟨h3, h4, h5, h8, h9⟩, ⟨t8, t9, t10, t11⟩, him, h13⟩ := h
  have htx : ∀ t' f, ma_text σ t' f → ma_text y t' f := by
    intro t' f z
    unfold ma_text at z ⊢
    rw [hrow 1 (by decide) (by decide) (by decide), hrow 2 (by decide) (by decide) (by decide)]
    exact z
  refine ⟨⟨by show s.g.1 + 1 ≤ 5; omega, h12, fun r hr => ?_, fun p hp => ?_, by rw [ho 7 (by decide)]; exact k5, ?_⟩, h2, ⟨by rw [ho 4 (by decide)]; exact h3, h4, by rw [ho 3 (by decide)]; exact h5, h8, fun t' ht' => htx t' _ (h9 t' ht')⟩,
    ⟨by rw [ho 6 (by decide)]; exact t8, t9, t10, fun i hi => by rw [hrow 3 (by decide) (by decide) (by decide)]; exact t11 i hi⟩, ?_, fun k hk => ?_⟩
  · have z := k3 r hr
    unfold ma_row at z ⊢
    rw [hrow 5 (by decide) (by decide) (by decide), hrow 4 (by decide) (by decide) (by decide)]
    exact z
  · have hp : p < s.g.1 + 1 := hp
    show ma_fo y p (pp_up s.g.2.1 s.g.1 k p) (pp_up s.g.2.2 s.g.1 n p) (pp_up s.c.ap s.g.1 0 p)
    unfold pp_up
    by_cases e : p = s.g.1
    · rw [if_pos e, if_pos e, if_pos e]
      refine ⟨by rw [h6, if_pos e], by rw [h7, if_pos (by omega)], by rw [h7, if_neg (by omega), if_pos (by omega)], hk, hn, by decide⟩
    · rw [if_neg e, if_neg e, if_neg e]
      obtain ⟨o1, o2, o3, o4⟩ := k4 p (show p < s.g.1 by omega)
      exact ⟨by rw [h6, if_neg e]; exact o1, by rw [h7, if_neg (by omega), if_neg (by omega)]; exact o2, by rw [h7, if_neg (by omega), if_neg (by omega)]; exact o3, o4⟩
  · obtain ⟨t, t1, t2, t3⟩ := k6
    exact ⟨t, t1, by rw [ho 4 (by decide)]; exact t2, htx t _ t3⟩
  · show ma_im _ (s.g.1 + 1) s.t.2.1 s.im
    cases e : s.im with
    | none =>
      rw [e] at him
      unfold ma_im at him ⊢
      rw [ho 40 (by decide)]; exact him
    | some q =>
      rw [e] at him
      obtain ⟨m1, c, num, ru⟩ := q
      unfold ma_im at him ⊢
      rw [ho 40 (by decide), ho 41 (by decide), ho 42 (by decide), hrow 15 (by decide) (by decide) (by decide), hrow 16 (by decide) (by decide) (by decide), hrow 17 (by decide) (by decide) (by decide)]
      exact ⟨him.1, by have := him.2.1; omega, him.2.2⟩
  · show ma_sh _ k (s.sh k)
    have z := h13 k hk
    cases e : s.sh k with
    | none =>
      rw [e] at z
      unfold ma_sh at z ⊢
      rw [hrow 18 (by decide) (by decide) (by decide)]; exact z
    | some q =>
      rw [e] at z
      obtain ⟨so, n, it⟩ := q
      unfold ma_sh at z ⊢
      rw [hrow 18 (by decide) (by decide) (by decide), hrow 19 (by decide) (by decide) (by decide), hrow 20 (by decide) (by decide) (by decide), hrow 21 (by decide) (by decide) (by decide)]
      exact z
theorem ms_gleaner {kd num : Int32} (h : RM σ s) (hq : ∀ σ', RM σ' (po_gleaner s kd num).2 → Q (po_gleaner s kd num).1 σ') : mmw_gleaner kd num σ Q := by
  have hm' : s.g.1 ≤ 5 := h.1.1
  have h12 : gg_g σ 0 12 = nI s.g.1 := h.1.2.1
  unfold po_gleaner at hq
  unfold mmw_gleaner
  refine ms_lt (n := 6) (by decide) (by decide) (fun k hk e => ml_1 ?_) (fun e => ml_0 ?_)
  · subst e
    rw [pp_ix_some hk (by decide)] at hq
    dsimp only at hq
    refine ms_lt (n := 10) (by decide) (by decide) (fun n hn e => ml_1 ?_) (fun e => ml_0 ?_)
    · subst e
      rw [pp_ix_some hn (by decide)] at hq
      dsimp only at hq
      rw [h12, show (5 : Int32) = nI 5 from rfl, nI_eq (by omega) (by decide)]
      refine ⟨fun e => ?_, fun e => ⟨ml_in (by omega) (by decide), ?_⟩⟩
      · rw [if_pos e] at hq
        exact hq σ h
      · rw [if_neg e] at hq
        rintro _ rfl
        rw [gg_row _ 6 _ _ (show (0 : Nat) ≠ 6 by decide), h12, ml_2, ml_cl (by omega), ml_cl (by omega)]
        refine ⟨ml_in (by omega) (by decide), ?_⟩
        rintro _ rfl
        rw [gg_row _ 7 _ _ (show (0 : Nat) ≠ 7 by decide), gg_row _ 6 _ _ (show (0 : Nat) ≠ 6 by decide), h12, ml_21, ml_cl (by omega)]
        refine ⟨ml_in (by omega) (by decide), ?_⟩
        rintro _ rfl _ rfl
        rw [gg_row _ 7 _ _ (show (0 : Nat) ≠ 7 by decide), gg_row _ 7 _ _ (show (0 : Nat) ≠ 7 by decide), gg_row _ 6 _ _ (show (0 : Nat) ≠ 6 by decide), h12, gg_me, nI_1, show (1 : Int32) = nI 1 from rfl, pk_sub (by omega), Nat.add_sub_cancel]
        refine hq _ (RM_more h (by omega) (by omega) (by omega) (fun q hq' => ?_) gg_me (fun i h0 h6 h7 => ?_) (fun q => ?_) (fun q => ?_))
        · rw [gg_ot (fun z => absurd hq' (by rw [z]; decide)), gg_row _ 7 _ _ (show (0 : Nat) ≠ 7 by decide), gg_row _ 7 _ _ (show (0 : Nat) ≠ 7 by decide), gg_row _ 6 _ _ (show (0 : Nat) ≠ 6 by decide)]
        · rw [gg_row _ _ _ _ h0, gg_row _ _ _ _ h7, gg_row _ _ _ _ h7, gg_row _ _ _ _ h6]
        · rw [gg_row _ 0 _ _ (show (6 : Nat) ≠ 0 by decide), gg_row _ 7 _ _ (show (6 : Nat) ≠ 7 by decide), gg_row _ 7 _ _ (show (6 : Nat) ≠ 7 by decide), gg_gs]
          by_cases e : q = s.g.1
          · rw [if_pos ⟨rfl, e⟩, if_pos e]
          · rw [if_neg (fun z => e z.2), if_neg e]
        · rw [gg_row _ 0 _ _ (show (7 : Nat) ≠ 0 by decide), gg_gs, gg_gs]
          by_cases e : q = 2 * s.g.1
          · rw [if_neg (by omega), if_pos ⟨rfl, e⟩, if_pos e]
          · rw [if_neg e]
            by_cases e2 : q = 2 * s.g.1 + 1
            · rw [if_pos ⟨rfl, e2⟩, if_pos e2]; rfl
            · rw [if_neg (fun z => e2 z.2), if_neg (fun z => e z.2), if_neg e2, gg_row _ 6 _ _ (show (7 : Nat) ≠ 6 by decide)]
    · rw [pp_ix_none (by decide) e] at hq
      exact hq σ h
  · rw [pp_ix_none (by decide) e] at hq
    exact hq σ h
end MT
