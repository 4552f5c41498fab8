/-! THE CLASS'S WHOLE STATE against the abstract one, and the methods that the law calls -/
section CSF
variable {χ : xx_S} {s : pp_S}
def cc_im (χ : xx_S) (many tc : Nat) : Option (Nat × pp_C × (Nat → Nat) × Nat) → Prop
  | none => xx_g χ 0 35 = 0
  | some (m, c, num, ru) => xx_g χ 0 35 = 1 ∧ m ≤ many ∧ (∀ r, r < 4 → xx_g χ 26 r = nI (c.L r) ∧ xx_g χ 27 r = nI (c.b r) ∧ c.L r ≤ 24 ∧ c.b r < 2 ^ c.L r) ∧
      (∀ p, p < m → xx_g χ 28 p = nI (num p) ∧ xx_g χ 29 p = nI (c.ap p) ∧ num p ≤ 9 ∧ c.ap p ≤ 999) ∧ xx_g χ 7 0 = nI m ∧ xx_g χ 7 1 = nI c.nt ∧ c.nt ≤ 999 ∧ xx_g χ 7 2 = nI ru ∧ ru < tc
/-- where an array's class stands, by its sort -/
def cc_cls (so : Nat) : Nat := if so = 0 then 1 else if so = 1 then 8 else 0
/-- a value that an array of the sort can hold -/
def cc_ty (so : Nat) : FieldType := if so = 0 then .byte else if so = 1 then .short else .int
def cc_fit (so : Nat) (v : Int32) : Prop := fits (cc_ty so) (.int v) = true
def cc_sh (χ : xx_S) (k : Nat) : Option (Nat × Nat × (Nat → Int32)) → Prop
  | none => xx_r χ (39 + k) 0 = none
  | some (so, n, it) => so ≤ 2 ∧ n ≤ 40 ∧ ∃ (a : Nat) (f : Nat → Int32), xx_r χ (39 + k) 0 = some a ∧ a ∈ xx_L χ ∧ xx_f χ a = .inl (cc_cls so, n, .inl f) ∧ ∀ i, i < n → f i = it i ∧ cc_fit so (f i)
/-- no two sheets have the same row -/
def cc_two (χ : xx_S) : Prop := ∀ j k a, j < 4 → k < 4 → xx_r χ (39 + j) 0 = some a → xx_r χ (39 + k) 0 = some a → j = k
/-- the class stands for the state s -/
def RX (χ : xx_S) (s : pp_S) : Prop :=
  cc_C χ s.K s.c ∧ s.c.nt ≤ 999 ∧ (xx_g χ 0 24 = nI s.t.1 ∧ s.t.1 < s.t.2.1 ∧ xx_g χ 0 13 = nI s.t.2.1 ∧ s.t.2.1 ≤ 6 ∧ ∀ t, t < s.t.2.1 → cc_text χ t (s.t.2.2 t)) ∧
  (xx_g χ 0 17 = nI s.tp.1 ∧ s.tp.1 ≤ 160 ∧ pp_by s.tp.2 s.tp.1 ∧ ∀ i, i < s.tp.1 → xx_g χ 30 i = (s.tp.2 i).toInt8.toInt32) ∧ cc_im χ s.g.1 s.t.2.1 s.im ∧ (∀ k, k < 4 → cc_sh χ k (s.sh k)) ∧ cc_two χ
theorem cc_im_of {x y : xx_S} {m tc : Nat} {o : Option (Nat × pp_C × (Nat → Nat) × Nat)} (h : cc_im y m tc o) (e0 : xx_g x 0 35 = xx_g y 0 35) (er : ∀ i, i ∈ [7, 26, 27, 28, 29] → ∀ k, xx_g x i k = xx_g y i k) : cc_im x m tc o := by
  cases o with
  | none => unfold cc_im at h ⊢; rw [e0]; exact h
  | some q =>
    obtain ⟨m1, c, num, ru⟩ := q
    unfold cc_im at h ⊢
    obtain ⟨h1, h2, h3, h4, h5, h6, h7, h8, h9⟩ := h
    exact ⟨by rw [e0]; exact h1, h2, fun r hr => by rw [er 26 (by decide), er 27 (by decide)]; exact h3 r hr, fun p hp => by rw [er 28 (by decide), er 29 (by decide)]; exact h4 p hp, by rw [er 7 (by decide)]; exact h5, by rw [er 7 (by decide)]; exact h6, h7, by rw [er 7 (by decide)]; exact h8, h9⟩
theorem cc_sh_of {x y : xx_S} {k : Nat} {o : Option (Nat × Nat × (Nat → Int32))} (h : cc_sh y k o) (e : cc_pool x y) : cc_sh x k o := by
  cases o with
  | none => unfold cc_sh at h ⊢; rw [e.1]; exact h
  | some q =>
    obtain ⟨so, n, it⟩ := q
    obtain ⟨h1, h2, a, f, h3, h4, h5, h6⟩ := h
    refine ⟨h1, h2, a, f, by rw [e.1]; exact h3, by rw [e.2.1]; exact h4, ?_, h6⟩
    rcases e.2.2 a with g | ⟨k, n, n', b, b', g1, g2, g3, g4⟩
    · exact g.trans h5
    · rw [h5] at g3; cases g3
/-- the core is another, all else as it was -/
theorem RX_core {x : xx_S} {K : pp_K} {c : pp_C} {g : Nat × (Nat → Nat) × (Nat → Nat)} (h : RX χ s) (hg : g.1 = s.g.1) (hK : K = (g.1, g.2.1, g.2.2, s.t.2.2 s.t.1)) (hc : cc_C x K c) (hn : c.nt ≤ 999) (e0 : ∀ k, k ∈ [13, 17, 24, 35] → xx_g x 0 k = xx_g χ 0 k) (er : ∀ i, i ∈ [7, 26, 27, 28, 29, 30] → ∀ k, xx_g x i k = xx_g χ i k) (hp : cc_pool x χ) : RX x (c, g, s.t, s.tp, s.im, s.sh) := by
  subst hK
  obtain ⟨h1, h2, ⟨h3, h4, h5, h6, h7⟩, ⟨h8, h9, h10, h11⟩, h12, h13, h14⟩ := h
  refine ⟨hc, hn, ⟨by rw [e0 24 (by decide)]; exact h3, h4, by rw [e0 13 (by decide)]; exact h5, h6, fun t ht => cc_text_pool (h7 t ht) hp⟩, ⟨by rw [e0 17 (by decide)]; exact h8, h9, h10, fun i hi => by rw [er 30 (by decide)]; exact h11 i hi⟩, ?_, fun k hk => cc_sh_of (h13 k hk) hp, fun j k a hj hk => by rw [hp.1]; exact h14 j k a hj hk⟩
  show cc_im x g.1 s.t.2.1 s.im
  rw [hg]
  exact cc_im_of h12 (e0 35 (by decide)) (fun i hi => er i ((show ∀ i, i ∈ [7, 26, 27, 28, 29] → i ∈ [7, 26, 27, 28, 29, 30] by decide) i hi))
theorem RX_ft {x : xx_S} {c : pp_C} (h : RX χ s) (hc : cc_C x s.K c) (hn : c.nt ≤ 999) (e : cc_ft x χ) : RX x (s.setc c) :=
  RX_core (g := s.g) h rfl rfl hc hn (fun k hk => e.1 0 k (fun _ => (show ∀ k, k ∈ [13, 17, 24, 35] → k ∈ cc_k1 by decide) k hk) (by decide)) (fun i hi k => e.1 i k (fun z => absurd z ((show ∀ i, i ∈ [7, 26, 27, 28, 29, 30] → i ≠ 0 by decide) i hi)) ((show ∀ i, i ∈ [7, 26, 27, 28, 29, 30] → i ∉ cc_S0 by decide) i hi)) e.2
theorem RX_same {x : xx_S} (h : RX χ s) (hc : cc_C x s.K s.c) (e : cc_ft x χ) : RX x s := RX_ft (c := s.c) h hc h.2.1 e
theorem RX_e {S : List Nat} {x : xx_S} (h : RX χ s) (e : cc_e S x χ) (hs : ∀ i, i ∈ S → i ∈ [3, 4, 5, 6]) : RX x s :=
  RX_same h (cc_C_e h.1 e (fun i hi z => absurd (hs i z) ((show ∀ i, i ∈ [0, 1, 2] → i ∉ [3, 4, 5, 6] by decide) i hi))) (cc_ft_e e (fun i hi => (show ∀ i, i ∈ [3, 4, 5, 6] → i ∈ cc_S0 by decide) i (hs i hi)))
variable {Q : Int32 → xx_S → Prop}
theorem xs_tries {one row w : Int32} (h : RX χ s) (hq : ∀ χ', RX χ' s → Q (po_tries s one row w) χ') : xxw_tries one row w χ Q := by
  have hm' : s.g.1 ≤ 5 := h.1.1
  unfold po_tries at hq
  unfold xxw_tries
  refine cs_isOne (n := s.g.1) h.1.2.1 hm' (fun p hp e => ml_1 ?_) (fun e => ml_0 ?_)
  · subst e
    rw [pp_ix_some (n := s.g.1) hp (by omega)] at hq
    refine cs_isRow (fun r hr e => ml_1 ?_) (fun e => ml_0 ?_)
    · subst e
      rw [pp_ix_some hr (by decide)] at hq
      refine cs_lt (n := 4) (by decide) (by decide) (fun k hk e => ml_1 ?_) (fun e => ml_0 ?_)
      · subst e
        rw [pp_ix_some hk (by decide)] at hq
        exact cs_triesOf h.1 hp hr (fun χ' hc ft _ _ => hq χ' (RX_same h hc ft))
      · rw [pp_ix_none (by decide) e] at hq
        exact hq χ h
    · rw [pp_ix_none (by decide) e] at hq
      exact hq χ h
  · rw [pp_ix_none (n := s.g.1) (by omega) e] at hq
    exact hq χ h
theorem xs_glean {one row : Int32} (h : RX χ s) (hq : ∀ χ', RX χ' (po_glean s one row).2 → Q (po_glean s one row).1 χ') : xxw_glean one row χ Q := by
  have hm' : s.g.1 ≤ 5 := h.1.1
  unfold po_glean at hq
  unfold xxw_glean
  refine cs_isOne (n := s.g.1) h.1.2.1 hm' (fun p hp e => ml_1 ?_) (fun e => ml_0 ?_)
  · subst e
    rw [pp_ix_some (n := s.g.1) hp (by omega)] at hq
    refine cs_isRow (fun r hr e => ml_1 ?_) (fun e => ml_0 ?_)
    · subst e
      rw [pp_ix_some hr (by decide)] at hq
      exact cs_gleansC h.1 hp hr (fun χ' hc _ f _ => hq χ' (RX_ft h hc h.2.1 (cc_ft_fc f)))
    · rw [pp_ix_none (by decide) e] at hq
      exact hq χ h
  · rw [pp_ix_none (n := s.g.1) (by omega) e] at hq
    exact hq χ h
theorem xs_asks {one g : Int32} (h : RX χ s) (hq : ∀ χ', RX χ' s → Q (po_asks s one g) χ') : xxw_asks one g χ Q := by
  have hm' : s.g.1 ≤ 5 := h.1.1
  unfold po_asks at hq
  unfold xxw_asks
  refine cs_isOne (n := s.g.1) h.1.2.1 hm' (fun p hp e => ml_1 ?_) (fun e => ml_0 ?_)
  · subst e
    rw [pp_ix_some (n := s.g.1) hp (by omega)] at hq
    refine cs_inc (a := 1) (z := 24) (by decide) (by decide) (fun hg => ml_1 ?_) (fun hg => ml_0 ?_)
    · dsimp only at hq
      rw [if_pos hg] at hq
      obtain ⟨n, hn, e⟩ : ∃ n : Nat, n ≤ 24 ∧ g = nI n := ⟨g.toInt.toNat, by omega, by rw [← ml_iNat (by omega), Int32.ofInt_toInt]⟩
      subst e
      rw [nI_toInt (by omega), Int.toNat_natCast] at hq
      refine cs_takingOf (f := s.K.f) (by omega) h.1.2.2.2.2.2.1 hn (h.1.2.2.2.1 p hp) (fun χ' e => ?_)
      rw [h.1.2.2.2.2.1]
      exact hq χ' (RX_e h e (fun i hi => absurd hi (by simp)))
    · dsimp only at hq
      rw [if_neg hg] at hq
      exact hq χ h
  · rw [pp_ix_none (n := s.g.1) (by omega) e] at hq
    exact hq χ h
theorem xs_run {row k : Int32} (h : RX χ s) (hq : ∀ χ', RX χ' s → Q (po_run s row k) χ') : xxw_run row k χ Q := by
  unfold po_run at hq
  unfold xxw_run
  refine cs_isRow (fun r hr e => ml_1 ?_) (fun e => ml_0 ?_)
  · subst e
    rw [pp_ix_some hr (by decide)] at hq
    have hrow := h.1.2.2.1 r hr
    have hL := hrow.2.2.1
    have hlen : (pp_runs (s.c.b r) (s.c.L r)).length ≤ s.c.L r := pp_rn_len _ _ _ 0 (by omega)
    have hL' : s.c.L r ≤ 24 := hL
    refine cs_tellsRuns hr hrow (fun χ' hf hru => ?_)
    have h' := RX_e h (cc_e_3 hf) (by decide)
    dsimp only at hq
    refine cs_lt (n := (pp_runs (s.c.b r) (s.c.L r)).length) (by omega) ?_ (fun j hj e => ml_1 ?_) (fun e => ml_0 ?_)
    · rw [Int32.toInt_toInt64]
      exact pk_sub_toInt (a := (pp_runs (s.c.b r) (s.c.L r)).length) (b := 1) (by omega) (by omega)
    · subst e
      rw [pp_ix_some hj (by omega)] at hq
      have hg : (pp_runs (s.c.b r) (s.c.L r))[j]? = some (pp_runs (s.c.b r) (s.c.L r))[j] := List.getElem?_eq_getElem hj
      have hq' := hq χ' h'
      dsimp only [Option.bind] at hq'
      rw [hg] at hq'
      refine ⟨ml_in (by omega) (by decide), ?_⟩
      rw [ml_cl (by omega), hru j _ hg]
      exact hq'
    · rw [pp_ix_none (by omega) e] at hq
      exact hq χ' h'
  · rw [pp_ix_none (by decide) e] at hq
    exact hq χ h
theorem cs_gapsAll_4 {K : pp_K} {c : pp_C} (h : cc_C χ K c) {X : Int32} (hq : Q X χ) : ∀ (d k : Nat) (a : Int32), k + d = 4 → (d = 4 → a = 0) → (match d with | 0 => a | 1 => a + pp_left (c.L 3) (c.b 3) | 2 => a + pp_left (c.L 2) (c.b 2) + pp_left (c.L 3) (c.b 3) | 3 => a + pp_left (c.L 1) (c.b 1) + pp_left (c.L 2) (c.b 2) + pp_left (c.L 3) (c.b 3) | _ => a + pp_left (c.L 0) (c.b 0) + pp_left (c.L 1) (c.b 1) + pp_left (c.L 2) (c.b 2) + pp_left (c.L 3) (c.b 3)) = X → xxw_gapsAll_4 Q (d + 1) a (nI k) χ := by
  intro d
  induction d with
  | zero =>
    intro k a h1 _ hX
    have hX : a = X := hX
    unfold xxw_gapsAll_4
    rw [show (4 : Int32) = nI 4 from rfl, nI_leI (by omega) (by omega), hX]
    exact ⟨fun _ => hq, fun z => absurd (show 4 ≤ k by omega) z⟩
  | succ d ih =>
    intro k a h1 _ hX
    unfold xxw_gapsAll_4
    rw [show (4 : Int32) = nI 4 from rfl, nI_leI (by omega) (by omega), nI_1]
    refine ⟨fun z => by omega, fun _ => cs_gapsOf (by omega) (h.2.2.1 k (by omega)) (ih (k + 1) _ (by omega) (fun z => by omega) ?_)⟩
    rcases (show d = 0 ∨ d = 1 ∨ d = 2 ∨ d = 3 by omega) with rfl | rfl | rfl | rfl
    · obtain rfl : k = 3 := by omega
      exact hX
    · obtain rfl : k = 2 := by omega
      exact hX
    · obtain rfl : k = 1 := by omega
      exact hX
    · obtain rfl : k = 0 := by omega
      exact hX
theorem cs_gapsAll {K : pp_K} {c : pp_C} (h : cc_C χ K c) (hq : Q (pp_gaps c) χ) : xxw_gapsAll χ Q := by
  refine ⟨5, cs_gapsAll_4 h hq 4 0 0 (by decide) (fun _ => rfl) ?_⟩
  show (0 : Int32) + pp_left (c.L 0) (c.b 0) + pp_left (c.L 1) (c.b 1) + pp_left (c.L 2) (c.b 2) + pp_left (c.L 3) (c.b 3) = pp_gaps c
  rw [Int32.zero_add]
  rfl
theorem xs_night (h : RX χ s) (hq : ∀ χ', RX χ' (po_night s).2 → Q (po_night s).1 χ') : xxw_night χ Q := by
  have hn : s.c.nt ≤ 999 := h.2.1
  unfold po_night at hq
  unfold xxw_night
  rw [h.1.2.2.2.2.1, show (999 : Int32) = nI 999 from rfl, nI_eq (by omega) (by decide)]
  refine ⟨fun e => ?_, fun e => cs_passes h.1 (fun χ' hc f => cs_gapsAll hc ?_)⟩
  · rw [if_pos e] at hq
    exact hq χ h
  · rw [if_neg e] at hq
    exact hq χ' (RX_ft h hc (by show s.c.nt + 1 ≤ 999; omega) (cc_ft_fc f))
theorem cs_allGlean_2 {Q : xx_S → Prop} {K : pp_K} {c : pp_C} {r : Nat} {χ0 : xx_S} (hr : r < 4) (hq : ∀ χ', cc_C χ' K (pp_alls K r K.many c) → cc_fc χ' χ0 → Q χ') :
    ∀ (d k : Nat) (χ : xx_S), k + d = K.many → cc_C χ K (pp_alls K r k c) → cc_fc χ χ0 → xxw_allGlean_2 Q (d + 1) (nI r) (nI k) χ := by
  intro d
  induction d with
  | zero =>
    intro k χ h1 hc hf
    have h5 := hc.1
    obtain rfl : k = K.many := by omega
    unfold xxw_allGlean_2
    rw [hc.2.1, nI_leI (by omega) (by omega)]
    exact ⟨fun _ => hq χ hc hf, fun z => absurd (Nat.le_refl _) z⟩
  | succ d ih =>
    intro k χ h1 hc hf
    have h5 := hc.1
    unfold xxw_allGlean_2
    rw [hc.2.1, nI_leI (by omega) (by omega), nI_1]
    exact ⟨fun z => by omega, fun _ => cs_gleansC hc (by omega) hr (fun χ' h _ f _ => ih (k + 1) χ' (by omega) h (cc_fc_tr f hf))⟩
theorem cs_allGlean {Q : xx_S → Prop} {K : pp_K} {c : pp_C} {r : Nat} (hr : r < 4) (h : cc_C χ K c) (hq : ∀ χ', cc_C χ' K (pp_alls K r K.many c) → cc_fc χ' χ → Q χ') : xxw_allGlean (nI r) χ Q :=
  ⟨K.many + 1, cs_allGlean_2 (c := c) hr hq K.many 0 χ (by omega) h cc_fc_rf⟩
theorem cs_nights_49 {K : pp_K} {c : pp_C} {p r n : Nat} {w : Int32} {χ0 χ1 : xx_S} (hp : p < K.many) (hr : r < 4) (hn : n ≤ 20) (h0 : cc_C χ0 K c) (k1 : cc_kept χ1 0 K c) (f1 : cc_fk 0 χ1 χ0)
    (hq : ∀ χ', cc_C χ' K c → cc_ft χ' χ0 → Q (if w = 0 then nI ((pp_nts K r n c).ap p) else pp_left ((pp_nts K r n c).L r) ((pp_nts K r n c).b r)) χ') :
    ∀ (d k : Nat) (χ : xx_S), k + d = n → cc_C χ K (pp_nts K r k c) → cc_fc χ χ1 → xxw_nights_49 Q (d + 1) (nI p) (nI r) (nI n) w (nI k) χ := by
  intro d
  induction d with
  | zero =>
    intro k χ h1 hc hf
    have hm := hc.1
    obtain rfl : k = n := by omega
    unfold xxw_nights_49 xxw_nights_92
    rw [nI_leI (by omega) (by omega)]
    obtain ⟨⟨y, y1, y2⟩, y3⟩ := hc.2.2.2.1 p hp
    refine ⟨fun _ => ⟨fun e => ⟨ml_in (by omega) (by decide), y, by rw [ml_cl (by omega)]; exact y1, _, _, _, y2, cs_back0 h0 k1 f1 hc hf (fun χ' hc' ft _ _ => ?_)⟩, fun e => cs_gapsOf hr (hc.2.2.1 r hr) (cs_back0 h0 k1 f1 hc hf (fun χ' hc' ft _ _ => ?_))⟩, fun z => absurd (Nat.le_refl _) z⟩
    · have := hq χ' hc' ft
      rw [if_pos e] at this
      exact this
    · have := hq χ' hc' ft
      rw [if_neg e] at this
      exact this
  | succ d ih =>
    intro k χ h1 hc hf
    unfold xxw_nights_49
    rw [nI_leI (by omega) (by omega), nI_1]
    exact ⟨fun z => by omega, fun _ => cs_allGlean hr hc (fun χ2 hc2 f2 => cs_passes hc2 (fun χ3 hc3 f3 => ih (k + 1) χ3 (by omega) hc3 (cc_fc_tr f3 (cc_fc_tr f2 hf))))⟩
theorem xs_nights {one row n w : Int32} (h : RX χ s) (hq : ∀ χ', RX χ' s → Q (po_nights s one row n w) χ') : xxw_nights one row n w χ Q := by
  have hm' : s.g.1 ≤ 5 := h.1.1
  unfold po_nights at hq
  unfold xxw_nights
  refine cs_isOne (n := s.g.1) h.1.2.1 hm' (fun p hp e => ml_1 ?_) (fun e => ml_0 ?_)
  · subst e
    rw [pp_ix_some (n := s.g.1) hp (by omega)] at hq
    refine cs_isRow (fun r hr e => ml_1 ?_) (fun e => ml_0 ?_)
    · subst e
      rw [pp_ix_some hr (by decide)] at hq
      refine cs_lt (n := 21) (by decide) (by decide) (fun m hk e => ml_1 ?_) (fun e => ml_0 ?_)
      · subst e
        rw [pp_ix_some hk (by decide)] at hq
        refine cs_lt (n := 2) (by decide) (by decide) (fun v hv e => ml_1 ?_) (fun e => ml_0 ?_)
        · have e2 : (pp_ix w 2).isSome = true := by rw [e, pp_ix_some hv (by decide)]; rfl
          dsimp only at hq
          rw [if_pos e2] at hq
          refine cs_keeps (fr := 0) (by decide) h.1 (fun χ1 k1 f1 => ⟨m + 1, cs_nights_49 (K := s.K) hp hr (by omega) h.1 k1 f1 (fun χ' hc ft => hq χ' (RX_same h hc ft)) m 0 χ1 (by omega) (cc_C_fk h.1 f1 (by decide)) cc_fc_rf⟩)
        · rw [pp_ix_none (by decide) e] at hq
          exact hq χ h
      · rw [pp_ix_none (by decide) e] at hq
        exact hq χ h
    · rw [pp_ix_none (by decide) e] at hq
      exact hq χ h
  · rw [pp_ix_none (n := s.g.1) (by omega) e] at hq
    exact hq χ h
theorem xs_count {w : Int32} (h : RX χ s) (hq : ∀ χ', RX χ' s → Q (po_count s w) χ') : xxw_count w χ Q := by
  have hq := hq χ h
  unfold po_count at hq
  unfold xxw_count
  have z0 : ∀ k : Nat, k < 6 → w = nI k → (pp_ix w 6).isSome = true := fun k hk e => by rw [e, pp_ix_some hk (by decide)]; rfl
  refine ⟨fun e => ?_, fun e => cs_gapsAll h.1 ?_, fun e => ?_, fun e => ?_, fun e => ?_, fun e => ?_, fun ⟨n0, n1, n2, n3, n4, n5⟩ => ?_⟩
  · rw [if_pos (z0 0 (by decide) e), if_pos e] at hq
    rw [h.1.2.1]; exact hq
  · rw [if_pos (z0 1 (by decide) e), if_neg (by rw [e]; decide), if_pos e] at hq
    exact hq
  · rw [if_pos (z0 2 (by decide) e), if_neg (by rw [e]; decide), if_neg (by rw [e]; decide), if_pos e] at hq
    rw [h.1.2.2.2.2.1]; exact hq
  · rw [if_pos (z0 3 (by decide) e), if_neg (by rw [e]; decide), if_neg (by rw [e]; decide), if_neg (by rw [e]; decide), if_pos e] at hq
    rw [h.2.2.1.2.2.1]; exact hq
  · rw [if_pos (z0 4 (by decide) e), if_neg (by rw [e]; decide), if_neg (by rw [e]; decide), if_neg (by rw [e]; decide), if_neg (by rw [e]; decide), if_pos e] at hq
    rw [h.2.2.2.1.1]; exact hq
  · rw [if_pos (z0 5 (by decide) e), if_neg (by rw [e]; decide), if_neg (by rw [e]; decide), if_neg (by rw [e]; decide), if_neg (by rw [e]; decide), if_neg (by rw [e]; decide)] at hq
    rw [h.2.2.1.1]; exact hq
  · rw [pp_ix_none (by decide) (fun k hk e => by
      rcases (show k = 0 ∨ k = 1 ∨ k = 2 ∨ k = 3 ∨ k = 4 ∨ k = 5 by omega) with rfl | rfl | rfl | rfl | rfl | rfl
      · exact n0 e
      · exact n1 e
      · exact n2 e
      · exact n3 e
      · exact n4 e
      · exact n5 e)] at hq
    exact hq
theorem xs_force {t : Int32} (h : RX χ s) (hq : ∀ χ', RX χ' (po_force s t).2 → Q (po_force s t).1 χ') : xxw_force t χ Q := by
  have h3 := h.2.2.1.1
  have h4 := h.2.2.1.2.1
  have h5 := h.2.2.1.2.2.1
  have h6 := h.2.2.1.2.2.2.1
  unfold po_force at hq
  unfold xxw_force xxw_isText
  refine cs_lt (n := s.t.2.1) (by omega) ?_ (fun k hk e => ml_1 ?_) (fun e => ml_0 ?_)
  · rw [h5, Int32.toInt_toInt64]
    exact pk_sub_toInt (a := s.t.2.1) (b := 1) (by omega) (by omega)
  · subst e
    rw [pp_ix_some hk (by omega)] at hq
    rintro _ rfl
    rw [h3]
    obtain ⟨⟨c1, c2, c3, c4, c5, c6, c7⟩, h2, ⟨_, _, _, _, h7⟩, ⟨h8, h9, h10, h11⟩, h12, h13, h14⟩ := h
    have hp : cc_pool (xx_s χ 0 24 (nI k)) χ := cc_pool_e rfl
    refine hq _ ⟨⟨c1, by rw [xx_ot (by decide)]; exact c2, fun r hr => ?_, c4, by rw [xx_ot (by decide)]; exact c5, ⟨k, by omega, xx_me, cc_text_pool (h7 k hk) hp⟩, c7⟩, h2, ⟨xx_me, hk, by rw [xx_ot (by decide)]; exact h5, h6, fun t ht => cc_text_pool (h7 t ht) hp⟩, ⟨by rw [xx_ot (by decide)]; exact h8, h9, h10, fun i hi => by rw [xx_ro (show (30 : Nat) ≠ 0 by decide)]; exact h11 i hi⟩,
      cc_im_of h12 (xx_ot (by decide)) (fun i hi k => xx_ro ((show ∀ i, i ∈ [7, 26, 27, 28, 29] → i ≠ 0 by decide) i hi)), fun k hk => cc_sh_of (h13 k hk) hp, h14⟩
    exact ⟨by rw [xx_ro (show (1 : Nat) ≠ 0 by decide)]; exact (c3 r hr).1, by rw [xx_ro (show (2 : Nat) ≠ 0 by decide)]; exact (c3 r hr).2.1, (c3 r hr).2.2⟩
  · rw [pp_ix_none (by omega) e] at hq
    exact hq χ h
theorem xs_lay {row len b : Int32} (h : RX χ s) (hq : ∀ χ', RX χ' (po_lay s row len b).2 → Q (po_lay s row len b).1 χ') : xxw_lay row len b χ Q := by
  unfold po_lay at hq
  unfold xxw_lay
  refine cs_isRow (fun r hr e => ml_1 ?_) (fun e => ml_0 ?_)
  · subst e
    rw [pp_ix_some hr (by decide)] at hq
    refine cs_lt (n := 25) (by decide) (by decide) (fun L hL e => ml_1 ?_) (fun e => ml_0 ?_)
    · subst e
      rw [pp_ix_some hL (by decide)] at hq
      dsimp only at hq
      have hp : (2 : Nat) ^ L ≤ 2 ^ 24 := Nat.pow_le_pow_right (by decide) (by omega)
      have hp0 := Nat.two_pow_pos L
      refine cs_lt (n := 2 ^ L) (by omega) ?_ (fun v hv e => ml_1 ?_) (fun e => ml_0 ?_)
      · rw [show (1 : Int32) = nI 1 from rfl, ml_shl (by omega) (by omega), Nat.one_mul, Int32.toInt_toInt64]
        exact pk_sub_toInt (a := 2 ^ L) (b := 1) (by omega) (by omega)
      · subst e
        rw [pp_ix_some hv (by omega)] at hq
        refine ⟨ml_in (by omega) (by decide), ?_⟩
        rintro _ rfl
        refine ⟨ml_in (by omega) (by decide), ?_⟩
        rintro _ rfl
        rw [ml_cl (by omega)]
        have hrow : cc_row (xx_s (xx_s χ 1 r (nI L)) 2 r (nI v)) r L v := ⟨by rw [xx_ro (show (1 : Nat) ≠ 2 by decide), xx_gs, if_pos ⟨rfl, rfl⟩], by rw [xx_gs, if_pos ⟨rfl, rfl⟩], by omega, hv⟩
        refine cs_gapsOf hr hrow (hq _ (RX_core (g := s.g) (K := s.K) h rfl rfl (cc_C_ints _ h.1 (by rfl) (fun k _ => by rw [xx_ro (show (0 : Nat) ≠ 2 by decide), xx_ro (show (0 : Nat) ≠ 1 by decide)]) (pp_up s.c.b r v, pp_up s.c.L r L, s.c.ap, s.c.nt) rfl rfl (fun q hq' => ?_)) h.2.1 (fun k _ => by rw [xx_ro (show (0 : Nat) ≠ 2 by decide), xx_ro (show (0 : Nat) ≠ 1 by decide)]) (fun i hi k => ?_) (cc_pool_e rfl)))
        · show cc_row _ q (pp_up s.c.L r L q) (pp_up s.c.b r v q)
          unfold pp_up
          by_cases e : q = r
          · rw [if_pos e, if_pos e, e]
            exact hrow
          · rw [if_neg e, if_neg e]
            obtain ⟨r1, r2, r3⟩ := h.1.2.2.1 q hq'
            exact ⟨by rw [xx_ro (show (1 : Nat) ≠ 2 by decide), xx_gs, if_neg (fun z => e z.2)]; exact r1, by rw [xx_gs, if_neg (fun z => e z.2), xx_ro (show (2 : Nat) ≠ 1 by decide)]; exact r2, r3⟩
        · have key : ∀ i, i ∈ [7, 26, 27, 28, 29, 30] → i ≠ 1 ∧ i ≠ 2 := by decide
          rw [xx_ro (key i hi).2, xx_ro (key i hi).1]
      · rw [pp_ix_none (by omega) e] at hq
        exact hq χ h
    · rw [pp_ix_none (by decide) e] at hq
      exact hq χ h
  · rw [pp_ix_none (by decide) e] at hq
    exact hq χ h
theorem cs_toldOf {p k : Nat} (h : RX χ s) (hp : p < s.g.1) (hk : 1 ≤ k ∧ k < 5) (hq : ∀ χ', RX χ' s → Q (if k < 3 then (if k = 1 then nI (s.K.num p) else nI (s.c.ap p)) else if k = 3 then nI (s.K.kd p) else nI (pp_keep s.K s.c p)) χ') : xxw_toldOf (nI p) (nI k) χ Q := by
  have hm' : s.g.1 ≤ 5 := h.1.1
  obtain ⟨⟨y, y1, y2⟩, y3⟩ := h.1.2.2.2.1 p hp
  unfold xxw_toldOf
  rw [ml_cl (by omega)]
  rcases (show k = 1 ∨ k = 2 ∨ k = 3 ∨ k = 4 by omega) with rfl | rfl | rfl | rfl
  · refine ⟨fun _ => ⟨ml_in (by omega) (by decide), y, y1, _, _, _, y2, hq χ h⟩, fun z => absurd z (by decide), fun z => absurd z (by decide), fun z => absurd rfl z.1⟩
  · refine ⟨fun z => absurd z (by decide), fun _ => ⟨ml_in (by omega) (by decide), y, y1, _, _, _, y2, hq χ h⟩, fun z => absurd z (by decide), fun z => absurd rfl z.2.1⟩
  · refine ⟨fun z => absurd z (by decide), fun z => absurd z (by decide), fun _ => ⟨ml_in (by omega) (by decide), y, y1, cs_vkind y2 y3.1 (hq χ h)⟩, fun z => absurd rfl z.2.2⟩
  · refine ⟨fun z => absurd z (by decide), fun z => absurd z (by decide), fun z => absurd z (by decide), fun _ => cs_keepsOf h.1 hp (fun χ' e => hq χ' (RX_e h e (fun i hi => absurd hi (by simp))))⟩
theorem cs_toldRow {r k : Nat} (h : RX χ s) (hr : r < 4) (hk : 5 ≤ k ∧ k < 11) (hq : ∀ χ', RX χ' s → Q (if k < 8 then (if k = 5 then nI (s.c.L r) else if k = 6 then nI (s.c.b r) else pp_left (s.c.L r) (s.c.b r))
        else if k = 8 then nI (pp_runs (s.c.b r) (s.c.L r)).length else if k = 9 then nI (pp_gt (pp_runs (s.c.b r) (s.c.L r)) 0) else nI (pp_shake s.K s.c r)) χ') : xxw_toldRow (nI r) (nI k) χ Q := by
  have hrow := h.1.2.2.1 r hr
  unfold xxw_toldRow
  rw [ml_cl (by omega), hrow.1, hrow.2.1]
  rcases (show k = 5 ∨ k = 6 ∨ k = 7 ∨ k = 8 ∨ k = 9 ∨ k = 10 by omega) with rfl | rfl | rfl | rfl | rfl | rfl
  · exact ⟨fun _ => ⟨ml_in hr (by decide), hq χ h⟩, fun z => absurd z (by decide), fun z => absurd z (by decide), fun z => absurd z (by decide), fun z => absurd z (by decide), fun z => absurd rfl z.1⟩
  · exact ⟨fun z => absurd z (by decide), fun _ => ⟨ml_in hr (by decide), hq χ h⟩, fun z => absurd z (by decide), fun z => absurd z (by decide), fun z => absurd z (by decide), fun z => absurd rfl z.2.1⟩
  · exact ⟨fun z => absurd z (by decide), fun z => absurd z (by decide), fun _ => cs_gapsOf hr hrow (hq χ h), fun z => absurd z (by decide), fun z => absurd z (by decide), fun z => absurd rfl z.2.2.1⟩
  · exact ⟨fun z => absurd z (by decide), fun z => absurd z (by decide), fun z => absurd z (by decide), fun _ => cs_tellsRuns hr hrow (fun χ' e _ => hq χ' (RX_e h (cc_e_3 e) (by decide))), fun z => absurd z (by decide), fun z => absurd rfl z.2.2.2.1⟩
  · exact ⟨fun z => absurd z (by decide), fun z => absurd z (by decide), fun z => absurd z (by decide), fun z => absurd z (by decide), fun _ => cs_greatest hr hrow (fun χ' e => hq χ' (RX_e h (cc_e_3 e) (by decide))), fun z => absurd rfl z.2.2.2.2⟩
  · exact ⟨fun z => absurd z (by decide), fun z => absurd z (by decide), fun z => absurd z (by decide), fun z => absurd z (by decide), fun z => absurd z (by decide), fun _ => cs_shakesOf h.1 hr (fun χ' e => hq χ' (RX_e h e (fun i hi => absurd hi (by simp))))⟩
theorem xs_told {x w : Int32} (h : RX χ s) (hq : ∀ χ', RX χ' s → Q (po_told s x w) χ') : xxw_told x w χ Q := by
  have hm' : s.g.1 ≤ 5 := h.1.1
  unfold po_told at hq
  unfold xxw_told
  refine ⟨fun e => ?_, fun e => cs_inc (a := 5) (z := 10) (by decide) (by decide) (fun h5 => ml_1 ?_) (fun h5 => ml_0 (cs_inc (a := 1) (z := 4) (by decide) (by decide) (fun h1 => ml_1 ?_) (fun h1 => ml_0 ?_)))⟩
  · subst e
    rw [show (0 : Int32) = nI 0 from rfl, pp_ix_some (show 0 < 11 by decide) (by decide)] at hq
    rw [h.1.2.2.2.2.1]
    exact hq χ h
  · obtain ⟨k, hk, e⟩ : ∃ k : Nat, (5 ≤ k ∧ k < 11) ∧ w = nI k := ⟨w.toInt.toNat, by omega, by rw [← ml_iNat (by omega), Int32.ofInt_toInt]⟩
    subst e
    rw [pp_ix_some hk.2 (by decide)] at hq
    dsimp only at hq
    rw [if_neg (by omega), if_neg (by omega)] at hq
    refine cs_isRow (fun r hr e => ml_1 ?_) (fun e => ml_0 ?_)
    · subst e
      rw [pp_ix_some hr (by decide)] at hq
      exact cs_toldRow h hr hk hq
    · rw [pp_ix_none (by decide) e] at hq
      exact hq χ h
  · obtain ⟨k, hk, e⟩ : ∃ k : Nat, (1 ≤ k ∧ k < 5) ∧ w = nI k := ⟨w.toInt.toNat, by omega, by rw [← ml_iNat (by omega), Int32.ofInt_toInt]⟩
    subst e
    rw [pp_ix_some (show k < 11 by omega) (by decide)] at hq
    dsimp only at hq
    rw [if_neg (by omega), if_pos (by omega)] at hq
    refine cs_isOne (n := s.g.1) h.1.2.1 hm' (fun p hp e => ml_1 ?_) (fun e => ml_0 ?_)
    · subst e
      rw [pp_ix_some (n := s.g.1) hp (by omega)] at hq
      exact cs_toldOf h hp hk hq
    · rw [pp_ix_none (n := s.g.1) (by omega) e] at hq
      exact hq χ h
  · rw [pp_ix_none (by decide) (fun k hk z => by
      subst z
      rw [nI_toInt (by omega)] at h5 h1
      have : k ≠ 0 := fun z => e (by rw [z]; rfl)
      omega)] at hq
    exact hq χ h
end CSF
