/-! THE REFERENCE'S METHODS, on: images, rows by lot, sheets, texts -/
section MV
variable {σ : gg_S} {s : pp_S} {Q : Int32 → gg_S → Prop}
theorem ma_im_of {x y : gg_S} {m tc : Nat} {o : Option (Nat × pp_C × (Nat → Nat) × Nat)} (h : ma_im x m tc o) (e0 : ∀ k, k ∈ [40, 41, 42] → gg_g y 0 k = gg_g x 0 k) (er : ∀ i, i ∈ [15, 16, 17] → ∀ k, gg_g y i k = gg_g x i k) : ma_im y m tc o := by
  cases o with
  | none => unfold ma_im at h ⊢; rw [e0 40 (by decide)]; exact h
  | some q =>
    obtain ⟨m1, c, num, ru⟩ := q
    unfold ma_im at h ⊢
    obtain ⟨h1, h2, h3, h4, h5, h6, h7, h8⟩ := h
    refine ⟨by rw [e0 40 (by decide)]; exact h1, h2, fun r hr => by rw [er 15 (by decide), er 16 (by decide)]; exact h3 r hr, fun p hp => by rw [er 17 (by decide), er 17 (by decide)]; exact h4 p hp, by rw [e0 41 (by decide)]; exact h5, h6, by rw [e0 42 (by decide)]; exact h7, h8⟩
theorem ma_sh_of {x y : gg_S} {k : Nat} {o : Option (Nat × Nat × (Nat → Int32))} (h : ma_sh x k o) (er : ∀ i, i ∈ [18, 19, 20] → gg_g y i k = gg_g x i k) (e21 : ∀ q, q < 40 → gg_g y 21 (40 * k + q) = gg_g x 21 (40 * k + q)) : ma_sh y k o := by
  cases o with
  | none => unfold ma_sh at h ⊢; rw [er 18 (by decide)]; exact h
  | some q =>
    obtain ⟨so, n, it⟩ := q
    unfold ma_sh at h ⊢
    obtain ⟨h1, h2, h3, h4, h5, h6⟩ := h
    exact ⟨by rw [er 18 (by decide)]; exact h1, by rw [er 19 (by decide)]; exact h2, h3, by rw [er 20 (by decide)]; exact h4, h5, fun i hi => by rw [e21 i (by omega)]; exact h6 i hi⟩
theorem ma_text_of {x y : gg_S} {t : Nat} {f : Nat → pp_F} (h : ma_text x t f) (e2 : gg_g y 2 t = gg_g x 2 t) (e1 : ∀ q, gg_g y 1 (160 * t + q) = gg_g x 1 (160 * t + q)) : ma_text y t f := by
  obtain ⟨n, n1, n2, n3⟩ := h
  refine ⟨n, n1, by rw [e2]; exact n2, ?_⟩
  rw [show (fun i => gg_g y 1 (160 * t + i)) = (fun i => gg_g x 1 (160 * t + i)) from funext e1]
  exact n3
/-- all as it was but the image and the sheets -/
theorem RM_same {x y : gg_S} {im : Option (Nat × pp_C × (Nat → Nat) × Nat)} {sh : Nat → Option (Nat × Nat × (Nat → Int32))} (h : RM x s) (e0 : ∀ k, k ∈ [3, 4, 6, 7, 12] → gg_g y 0 k = gg_g x 0 k) (er : ∀ i, 1 ≤ i → i ≤ 7 → ∀ k, gg_g y i k = gg_g x i k)
    (him : ma_im y s.g.1 s.t.2.1 im) (hsh : ∀ k, k < 4 → ma_sh y k (sh k)) : RM y (s.c, s.g, s.t, s.tp, im, sh) := by
  obtain ⟨h1, h2, ⟨h3, h4, h5, h6, h7⟩, ⟨h8, h9, h10, h11⟩, _, _⟩ := h
  have key : ∀ i, i ∈ [1, 2, 4, 5, 6, 7] → 1 ≤ i ∧ i ≤ 7 := by decide
  refine ⟨ma_C_of h1 (fun k hk => e0 k ((show ∀ k, k ∈ [4, 7, 12] → k ∈ [3, 4, 6, 7, 12] by decide) k hk)) (fun i hi k => er i (key i hi).1 (key i hi).2 k), h2, ⟨by rw [e0 4 (by decide)]; exact h3, h4, by rw [e0 3 (by decide)]; exact h5, h6, fun t ht => ma_text_of (h7 t ht) (er 2 (by decide) (by decide) _) (fun q => er 1 (by decide) (by decide) _)⟩,
    ⟨by rw [e0 6 (by decide)]; exact h8, h9, h10, fun i hi => by rw [er 3 (by decide) (by decide)]; exact h11 i hi⟩, him, hsh⟩
/-! images -/
def po_image (s : pp_S) : Int32 × pp_S := (nI s.g.1, (s.c, s.g, s.t, s.tp, some (s.g.1, s.c, s.g.2.2, s.t.1), s.sh))
theorem ms_image_39 {σ0 : gg_S} (hq : ∀ σ', (∀ i k, i ≠ 17 → ¬ (i = 0 ∧ 40 ≤ k) → gg_g σ' i k = gg_g σ0 i k) → (∀ j, j < 10 → gg_g σ' 17 j = gg_g σ0 7 j) → gg_g σ' 0 40 = gg_g σ0 0 12 → gg_g σ' 0 41 = gg_g σ0 0 7 → gg_g σ' 0 42 = gg_g σ0 0 4 → Q (gg_g σ0 0 12) σ') :
    ∀ (d k : Nat) (σ : gg_S), k + d = 10 → (∀ i q, i ≠ 17 → gg_g σ i q = gg_g σ0 i q) → (∀ j, j < k → gg_g σ 17 j = gg_g σ0 7 j) → mmw_image_39 Q (d + 1) (nI k) σ := by
  intro d
  induction d with
  | zero =>
    intro k σ h1 h2 h3
    unfold mmw_image_39
    rw [show (10 : Int32) = nI 10 from rfl, nI_leI (by omega) (by omega)]
    refine ⟨fun _ => ?_, fun z => absurd (show 10 ≤ k by omega) z⟩
    rintro _ rfl _ rfl _ rfl
    rw [gg_ot (by decide), gg_ot (by decide), gg_ot (by decide), h2 0 12 (by decide)]
    refine hq _ (fun i q a b => ?_) (fun j hj => ?_) ?_ ?_ ?_
    · rw [gg_gs, if_neg (by omega), gg_gs, if_neg (by omega), gg_gs, if_neg (by omega)]
      exact h2 i q a
    · rw [gg_row _ _ _ _ (show (17 : Nat) ≠ 0 by decide), gg_row _ _ _ _ (show (17 : Nat) ≠ 0 by decide), gg_row _ _ _ _ (show (17 : Nat) ≠ 0 by decide)]
      exact h3 j (by omega)
    · rw [gg_ot (by decide), gg_ot (by decide), gg_me]
    · rw [gg_ot (by decide), gg_me, gg_ot (by decide), h2 0 7 (by decide)]
    · rw [gg_me, gg_ot (by decide), gg_ot (by decide), h2 0 4 (by decide)]
  | succ d ih =>
    intro k σ h1 h2 h3
    unfold mmw_image_39
    rw [show (10 : Int32) = nI 10 from rfl, nI_leI (by omega) (by omega), ml_cl (by omega), nI_1]
    refine ⟨fun z => by omega, fun _ => ⟨ml_in (by omega) (by decide), ml_in (by omega) (by decide), ?_⟩⟩
    rintro _ rfl
    refine ih (k + 1) _ (by omega) (fun i q hi => by rw [gg_row _ _ _ _ hi]; exact h2 i q hi) (fun j hj => ?_)
    rw [gg_gs]
    by_cases e : j = k
    · rw [if_pos ⟨rfl, e⟩, e, h2 7 k (by decide)]
    · rw [if_neg (fun z => e z.2)]
      exact h3 j (by omega)
theorem ms_image_2 {σ0 : gg_S} (hq : ∀ σ', (∀ i k, i ≠ 15 → i ≠ 16 → gg_g σ' i k = gg_g σ0 i k) → (∀ j, j < 4 → gg_g σ' 15 j = gg_g σ0 4 j ∧ gg_g σ' 16 j = gg_g σ0 5 j) → ∃ k9, mmw_image_39 Q k9 0 σ') :
    ∀ (d k : Nat) (σ : gg_S), k + d = 4 → (∀ i q, i ≠ 15 → i ≠ 16 → gg_g σ i q = gg_g σ0 i q) → (∀ j, j < k → gg_g σ 15 j = gg_g σ0 4 j ∧ gg_g σ 16 j = gg_g σ0 5 j) → mmw_image_2 Q (d + 1) (nI k) σ := by
  intro d
  induction d with
  | zero =>
    intro k σ h1 h2 h3
    unfold mmw_image_2
    rw [show (4 : Int32) = nI 4 from rfl, nI_leI (by omega) (by omega)]
    exact ⟨fun _ => hq σ h2 (fun j hj => h3 j (by omega)), fun z => absurd (show 4 ≤ k by omega) z⟩
  | succ d ih =>
    intro k σ h1 h2 h3
    unfold mmw_image_2
    rw [show (4 : Int32) = nI 4 from rfl, nI_leI (by omega) (by omega), ml_cl (by omega), nI_1]
    refine ⟨fun z => by omega, fun _ => ⟨ml_in (by omega) (by decide), ml_in (by omega) (by decide), ?_⟩⟩
    rintro _ rfl
    refine ⟨ml_in (by omega) (by decide), ml_in (by omega) (by decide), ?_⟩
    rintro _ rfl
    refine ih (k + 1) _ (by omega) (fun i q a b => by rw [gg_row _ _ _ _ b, gg_row _ _ _ _ a]; exact h2 i q a b) (fun j hj => ?_)
    rw [gg_row _ _ _ _ (show (5 : Nat) ≠ 15 by decide), gg_row _ 16 _ _ (show (15 : Nat) ≠ 16 by decide), gg_gs, gg_gs, gg_row _ 15 _ _ (show (16 : Nat) ≠ 15 by decide)]
    by_cases e : j = k
    · rw [if_pos ⟨rfl, e⟩, if_pos ⟨rfl, e⟩, e]
      exact ⟨h2 4 k (by decide) (by decide), h2 5 k (by decide) (by decide)⟩
    · rw [if_neg (fun z => e z.2), if_neg (fun z => e z.2)]
      exact h3 j (by omega)
theorem ms_image (h : RM σ s) (hq : ∀ σ', RM σ' (po_image s).2 → Q (po_image s).1 σ') : mmw_image σ Q := by
  refine ⟨5, ms_image_2 (σ0 := σ) (fun σ1 e1 k1 => ⟨11, ms_image_39 (σ0 := σ1) (fun σ2 e2 k2 n1 n2 n3 => ?_) 10 0 σ1 (by decide) (fun _ _ _ => rfl) (fun j hj => by omega)⟩) 4 0 σ (by decide) (fun _ _ _ _ => rfl) (fun j hj => by omega)⟩
  have e : ∀ i k, i ≠ 15 → i ≠ 16 → i ≠ 17 → ¬ (i = 0 ∧ 40 ≤ k) → gg_g σ2 i k = gg_g σ i k := fun i k a b d f => (e2 i k d f).trans (e1 i k a b)
  have h12 : gg_g σ1 0 12 = nI s.g.1 := by rw [e1 0 12 (by decide) (by decide)]; exact h.1.2.1
  rw [h12]
  have key0 : ∀ k, k ∈ [3, 4, 6, 7, 12] → k < 40 := by decide
  refine hq σ2 (RM_same h (fun k hk => e 0 k (by decide) (by decide) (by decide) (fun z => absurd (key0 k hk) (Nat.not_lt.mpr z.2))) (fun i a b k => e i k (by omega) (by omega) (by omega) (by omega)) ?_ (fun k hk => ma_sh_of (h.2.2.2.2.2 k hk) (fun i hi => ?_) (fun q _ => e 21 _ (by decide) (by decide) (by decide) (by omega))))
  · refine ⟨by rw [n1]; exact h12, Nat.le_refl _, fun r hr => ?_, fun p hp => ?_, ?_, h.2.1, ?_, h.2.2.1.2.1⟩
    · obtain ⟨r1, r2, r3, r4⟩ := h.1.2.2.1 r hr
      obtain ⟨k1a, k1b⟩ := k1 r hr
      rw [e2 15 r (by decide) (by omega), e2 16 r (by decide) (by omega), k1a, k1b]
      exact ⟨r2, r1, r3, r4⟩
    · obtain ⟨o1, o2, o3, o4, o5, o6⟩ := h.1.2.2.2.1 p hp
      have hm : s.g.1 ≤ 5 := h.1.1
      rw [k2 (2 * p) (by omega), k2 (2 * p + 1) (by omega), e1 7 _ (by decide) (by decide), e1 7 _ (by decide) (by decide)]
      exact ⟨o2, o3, o5, o6⟩
    · rw [n2, e1 0 7 (by decide) (by decide)]; exact h.1.2.2.2.2.1
    · rw [n3, e1 0 4 (by decide) (by decide)]; exact h.2.2.1.1
  · have key : ∀ i, i ∈ [18, 19, 20] → 18 ≤ i ∧ i ≤ 20 := by decide
    have := key i hi
    exact e i k (by omega) (by omega) (by omega) (by omega)
def po_back (s : pp_S) : Int32 × pp_S := match s.im with
  | none => (-3, s)
  | some q => (nI q.1, (q.2.1, (q.1, s.g.2.1, q.2.2.1), (q.2.2.2, s.t.2), s.tp, s.im, s.sh))
theorem ms_back_50 {σ0 : gg_S} (hq : ∀ σ', (∀ i k, i ≠ 7 → ¬ (i = 0 ∧ (k = 4 ∨ k = 7 ∨ k = 12)) → gg_g σ' i k = gg_g σ0 i k) → (∀ j, j < 10 → gg_g σ' 7 j = gg_g σ0 17 j) → gg_g σ' 0 12 = gg_g σ0 0 40 → gg_g σ' 0 7 = gg_g σ0 0 41 → gg_g σ' 0 4 = gg_g σ0 0 42 → Q (gg_g σ0 0 40) σ') :
    ∀ (d k : Nat) (σ : gg_S), k + d = 10 → (∀ i q, i ≠ 7 → gg_g σ i q = gg_g σ0 i q) → (∀ j, j < k → gg_g σ 7 j = gg_g σ0 17 j) → mmw_back_50 Q (d + 1) (nI k) σ := by
  intro d
  induction d with
  | zero =>
    intro k σ h1 h2 h3
    unfold mmw_back_50
    rw [show (10 : Int32) = nI 10 from rfl, nI_leI (by omega) (by omega)]
    refine ⟨fun _ => ?_, fun z => absurd (show 10 ≤ k by omega) z⟩
    rintro _ rfl _ rfl _ rfl
    rw [gg_ot (by decide), gg_ot (by decide), gg_me, h2 0 40 (by decide)]
    refine hq _ (fun i q a b => ?_) (fun j hj => ?_) ?_ ?_ ?_
    · rw [gg_gs, if_neg (by omega), gg_gs, if_neg (by omega), gg_gs, if_neg (by omega)]
      exact h2 i q a
    · rw [gg_row _ _ _ _ (show (7 : Nat) ≠ 0 by decide), gg_row _ _ _ _ (show (7 : Nat) ≠ 0 by decide), gg_row _ _ _ _ (show (7 : Nat) ≠ 0 by decide)]
      exact h3 j (by omega)
    · rw [gg_ot (by decide), gg_ot (by decide), gg_me]
    · rw [gg_ot (by decide), gg_me, gg_ot (by decide), h2 0 41 (by decide)]
    · rw [gg_me, gg_ot (by decide), gg_ot (by decide), h2 0 42 (by decide)]
  | succ d ih =>
    intro k σ h1 h2 h3
    unfold mmw_back_50
    rw [show (10 : Int32) = nI 10 from rfl, nI_leI (by omega) (by omega), ml_cl (by omega), nI_1]
    refine ⟨fun z => by omega, fun _ => ⟨ml_in (by omega) (by decide), ml_in (by omega) (by decide), ?_⟩⟩
    rintro _ rfl
    refine ih (k + 1) _ (by omega) (fun i q hi => by rw [gg_row _ _ _ _ hi]; exact h2 i q hi) (fun j hj => ?_)
    rw [gg_gs]
    by_cases e : j = k
    · rw [if_pos ⟨rfl, e⟩, e, h2 17 k (by decide)]
    · rw [if_neg (fun z => e z.2)]
      exact h3 j (by omega)
theorem ms_back_13 {σ0 : gg_S} (hq : ∀ σ', (∀ i k, i ≠ 4 → i ≠ 5 → gg_g σ' i k = gg_g σ0 i k) → (∀ j, j < 4 → gg_g σ' 4 j = gg_g σ0 15 j ∧ gg_g σ' 5 j = gg_g σ0 16 j) → ∃ k9, mmw_back_50 Q k9 0 σ') :
    ∀ (d k : Nat) (σ : gg_S), k + d = 4 → (∀ i q, i ≠ 4 → i ≠ 5 → gg_g σ i q = gg_g σ0 i q) → (∀ j, j < k → gg_g σ 4 j = gg_g σ0 15 j ∧ gg_g σ 5 j = gg_g σ0 16 j) → mmw_back_13 Q (d + 1) (nI k) σ := by
  intro d
  induction d with
  | zero =>
    intro k σ h1 h2 h3
    unfold mmw_back_13
    rw [show (4 : Int32) = nI 4 from rfl, nI_leI (by omega) (by omega)]
    exact ⟨fun _ => hq σ h2 (fun j hj => h3 j (by omega)), fun z => absurd (show 4 ≤ k by omega) z⟩
  | succ d ih =>
    intro k σ h1 h2 h3
    unfold mmw_back_13
    rw [show (4 : Int32) = nI 4 from rfl, nI_leI (by omega) (by omega), ml_cl (by omega), nI_1]
    refine ⟨fun z => by omega, fun _ => ⟨ml_in (by omega) (by decide), ml_in (by omega) (by decide), ?_⟩⟩
    rintro _ rfl
    refine ⟨ml_in (by omega) (by decide), ml_in (by omega) (by decide), ?_⟩
    rintro _ rfl
    refine ih (k + 1) _ (by omega) (fun i q a b => by rw [gg_row _ _ _ _ b, gg_row _ _ _ _ a]; exact h2 i q a b) (fun j hj => ?_)
    rw [gg_row _ _ _ _ (show (16 : Nat) ≠ 4 by decide), gg_row _ 5 _ _ (show (4 : Nat) ≠ 5 by decide), gg_gs, gg_gs, gg_row _ 4 _ _ (show (5 : Nat) ≠ 4 by decide)]
    by_cases e : j = k
    · rw [if_pos ⟨rfl, e⟩, if_pos ⟨rfl, e⟩, e]
      exact ⟨h2 15 k (by decide) (by decide), h2 16 k (by decide) (by decide)⟩
    · rw [if_neg (fun z => e z.2), if_neg (fun z => e z.2)]
      exact h3 j (by omega)
theorem ms_back (h : RM σ s) (hq : ∀ σ', RM σ' (po_back s).2 → Q (po_back s).1 σ') : mmw_back σ Q := by
  have hm : s.g.1 ≤ 5 := h.1.1
  have him := h.2.2.2.2.1
  unfold po_back at hq
  unfold mmw_back
  cases e : s.im with
  | none =>
    rw [e] at hq him
    exact ⟨fun _ => hq σ h, fun z => absurd him z⟩
  | some q =>
    have him0 := him
    obtain ⟨m, c, num, ru⟩ := q
    rw [e] at hq him
    obtain ⟨i1, i2, i3, i4, i5, i6, i7, i8⟩ := him
    refine ⟨fun z => ?_, fun _ => ⟨5, ms_back_13 (σ0 := σ) (fun σ1 e1 k1 => ⟨11, ms_back_50 (σ0 := σ1) (fun σ2 e2 k2 n1 n2 n3 => ?_) 10 0 σ1 (by decide) (fun _ _ _ => rfl) (fun j hj => by omega)⟩) 4 0 σ (by decide) (fun _ _ _ _ => rfl) (fun j hj => by omega)⟩⟩
    · rw [i1] at z
      have := congrArg Int32.toInt z
      rw [nI_toInt (by omega), show (-1 : Int32).toInt = -1 by decide] at this
      omega
    · have e12 : ∀ i k, i ≠ 4 → i ≠ 5 → i ≠ 7 → ¬ (i = 0 ∧ (k = 4 ∨ k = 7 ∨ k = 12)) → gg_g σ2 i k = gg_g σ i k := fun i k a b d f => (e2 i k d f).trans (e1 i k a b)
      have h1 : gg_g σ1 0 40 = nI m := by rw [e1 0 40 (by decide) (by decide)]; exact i1
      rw [h1]
      obtain ⟨⟨c1, c2, c3, c4, c5, c6⟩, h2, ⟨h3, h4, h5, h6, h7⟩, ⟨h8, h9, h10, h11⟩, _, h13⟩ := h
      have htx : ∀ t f, ma_text σ t f → ma_text σ2 t f := fun t f z => ma_text_of z (e12 2 _ (by decide) (by decide) (by decide) (by omega)) (fun q => e12 1 _ (by decide) (by decide) (by decide) (by omega))
      have g4 : gg_g σ2 0 4 = nI ru := by rw [n3, e1 0 42 (by decide) (by decide)]; exact i7
      refine hq σ2 ⟨⟨by show m ≤ 5; omega, by rw [n1]; exact h1, fun r hr => ?_, fun p hp => ?_, by rw [n2, e1 0 41 (by decide) (by decide)]; exact i5, ⟨ru, by show ru < 6; omega, g4, htx _ _ (h7 ru i8)⟩⟩, i6, ⟨g4, i8, by rw [e12 0 3 (by decide) (by decide) (by decide) (by omega)]; exact h5, h6, fun t ht => htx _ _ (h7 t ht)⟩,
        ⟨by rw [e12 0 6 (by decide) (by decide) (by decide) (by omega)]; exact h8, h9, h10, fun i hi => by rw [e12 3 i (by decide) (by decide) (by decide) (by omega)]; exact h11 i hi⟩, ?_, fun k hk => ?_⟩
      · obtain ⟨a1, a2, a3, a4⟩ := i3 r hr
        obtain ⟨k1a, k1b⟩ := k1 r hr
        refine ⟨?_, ?_, a3, a4⟩
        · rw [e2 5 r (by decide) (by omega), k1b]; exact a2
        · rw [e2 4 r (by decide) (by omega), k1a]; exact a1
      · have hp : p < m := hp
        obtain ⟨o1, o2, o3, o4, o5, o6⟩ := c4 p (show p < s.g.1 by omega)
        obtain ⟨q1, q2, q3, q4⟩ := i4 p hp
        refine ⟨?_, ?_, ?_, o4, q3, q4⟩
        · rw [e12 6 p (by decide) (by decide) (by decide) (by omega)]; exact o1
        · rw [k2 (2 * p) (by omega), e1 17 _ (by decide) (by decide)]; exact q1
        · rw [k2 (2 * p + 1) (by omega), e1 17 _ (by decide) (by decide)]; exact q2
      · rw [e] at him0
        show ma_im σ2 m s.t.2.1 _
        refine ma_im_of (x := σ) ⟨i1, Nat.le_refl _, i3, i4, i5, i6, i7, i8⟩ (fun k hk => ?_) (fun i hi k => ?_)
        · have key : ∀ k, k ∈ [40, 41, 42] → 40 ≤ k := by decide
          have := key k hk
          exact e12 0 k (by decide) (by decide) (by decide) (by omega)
        · have key : ∀ i, i ∈ [15, 16, 17] → 15 ≤ i := by decide
          have := key i hi
          exact e12 i k (by omega) (by omega) (by omega) (by omega)
      · refine ma_sh_of (h13 k hk) (fun i hi => ?_) (fun q _ => e12 21 _ (by decide) (by decide) (by decide) (by omega))
        have key : ∀ i, i ∈ [18, 19, 20] → 18 ≤ i := by decide
        have := key i hi
        exact e12 i k (by omega) (by omega) (by omega) (by omega)
/-! rows by lot -/
def pp_dz (z : Int32) : Int32 := (z * (1103515245 : Int32)) + (12345 : Int32)
def pp_dc (z : Int32) : Int32 := ((z).toUInt32 >>> (((9 : Int32)).toUInt32 &&& Int32.toUInt32 31)).toInt32 - ((z).toUInt32 >>> (((9 : Int32)).toUInt32 &&& Int32.toUInt32 31)).toInt32 / (3 : Int32) * (3 : Int32)
/-- the row that is drawn -/
def pp_dG (nx dc : Int32 → Int32) : Nat → Nat → Int32 → Nat → Nat
  | 0, _, _, b => b
  | d + 1, k, z, b => pp_dG nx dc d (k + 1) (nx z) (if dc (nx z) = 0 then b else b ||| 2 ^ k)
theorem pp_dG_s (nx dc : Int32 → Int32) (d k : Nat) (z : Int32) (b : Nat) : pp_dG nx dc (d + 1) k z b = pp_dG nx dc d (k + 1) (nx z) (if dc (nx z) = 0 then b else b ||| 2 ^ k) := by rw [pp_dG]
def pp_db : Nat → Nat → Int32 → Nat → Nat := pp_dG pp_dz pp_dc
theorem pp_db_s (d k : Nat) (z : Int32) (b : Nat) : pp_db (d + 1) k z b = pp_db d (k + 1) (pp_dz z) (if pp_dc (pp_dz z) = 0 then b else b ||| 2 ^ k) := pp_dG_s pp_dz pp_dc d k z b
def pp_drawn (K : pp_K) (c : pp_C) (p : Nat) (z : Int32) : Int32 := Int32.ofInt (pp_gl (pp_way K c.nt p) (pp_runs (pp_db 24 0 z 0) 24) 0 (pp_db 24 0 z 0) 24 (c.ap p) 0).1.2.2.2
theorem ma_C_4 {K : pp_K} {c : pp_C} {i : Nat} {v : Int32} (hi : i = 4 ∨ i = 5) (h : ma_C σ K c) : ma_C (gg_s σ i 4 v) K c := by
  obtain ⟨k1, k2, k3, k4, k5, t, t1, t2, n, n1, n2, n3⟩ := h
  have hrow : ∀ j, j ≠ 4 → j ≠ 5 → gg_g (gg_s σ i 4 v) j = gg_g σ j := fun j a b => gg_row _ _ _ _ (by omega)
  have h45 : ∀ j q, q < 4 → gg_g (gg_s σ i 4 v) j q = gg_g σ j q := fun j q hq => by rw [gg_gs, if_neg (by omega)]
  refine ⟨k1, by rw [hrow 0 (by decide) (by decide)]; exact k2, fun r hr => ?_, fun p hp => ?_, by rw [hrow 0 (by decide) (by decide)]; exact k5, t, t1, by rw [hrow 0 (by decide) (by decide)]; exact t2, n, n1, by rw [hrow 2 (by decide) (by decide)]; exact n2, ?_⟩
  · have z := k3 r hr
    unfold ma_row at z ⊢
    rw [h45 5 r hr, h45 4 r hr]
    exact z
  · have z := k4 p hp
    unfold ma_fo at z ⊢
    rw [hrow 6 (by decide) (by decide), hrow 7 (by decide) (by decide)]
    exact z
  · rw [show (fun i_1 => gg_g (gg_s σ i 4 v) 1 (160 * t + i_1)) = (fun i => gg_g σ 1 (160 * t + i)) from funext fun q => by rw [hrow 1 (by decide) (by decide)]]
    exact n3
theorem ma_fc_4 {τ : gg_S} {i k : Nat} {v : Int32} (h : (i = 4 ∨ i = 5) ∧ k < 5) : ma_fc (gg_s τ i k v) τ := fun j q _ _ d _ => by
  rw [gg_gs, if_neg (fun z => d (by rw [z.1, z.2]; exact h))]
theorem ms_takenDrawn_z {K : pp_K} {c : pp_C} {p b : Nat} {z : Int32} {w s1 : gg_S} (hp : p < K.many) (f1 : ∀ i k, i ≠ 14 → gg_g s1 i k = gg_g w i k) (w1 : mo_was s1 w)
    (hc : ma_C σ K c) (hf : ma_fc σ s1) (hrow : ma_row σ 4 24 b)
    (hq : ∀ σ', ma_th σ' w → Q (Int32.ofInt (pp_gl (pp_way K c.nt p) (pp_runs b 24) 0 b 24 (c.ap p) 0).1.2.2.2) σ') (d : Nat) : mmw_takenDrawn_24 Q (d + 1) (nI p) z 24 σ := by
  have hm := hc.1
  have h7 := hc.2.2.2.2.1
  unfold mmw_takenDrawn_24
  refine ⟨fun _ => ?_, fun z => absurd (Int32.le_refl _) z⟩
  refine ms_gleans (p := p) (r := 4) (by decide) (by omega) hrow (hc.2.2.2.1 p hp) hc.2.2.2.2.2 (fun σ' _ _ _ g4 => ?_)
  rw [h7]
  exact ms_laysBack f1 w1 (ma_fc_tr (ma_fc_fg (r := 4) (p := p) (by decide) (by omega) g4) hf) (fun σ'' ht _ => hq σ'' ht)
theorem ms_takenDrawn_24 {K : pp_K} {c : pp_C} {p : Nat} {w s1 : gg_S} {B : Nat} (hp : p < K.many) (f1 : ∀ i k, i ≠ 14 → gg_g s1 i k = gg_g w i k) (w1 : mo_was s1 w)
    (hq : ∀ σ', ma_th σ' w → Q (Int32.ofInt (pp_gl (pp_way K c.nt p) (pp_runs B 24) 0 B 24 (c.ap p) 0).1.2.2.2) σ') :
    ∀ (d k : Nat) (z : Int32) (b : Nat) (σ : gg_S), k + d = 24 → ma_C σ K c → ma_fc σ s1 → gg_g σ 4 4 = nI b → gg_g σ 5 4 = 24 → b < 2 ^ k → pp_db d k z b = B → mmw_takenDrawn_24 Q (d + 1) (nI p) z (nI k) σ := by
  intro d
  induction d with
  | zero =>
    intro k z b σ h1 hc hf h4 h5 hb hB
    have hB : b = B := hB
    rw [← hB] at hq
    rw [show k = 24 by omega] at hb ⊢
    exact ms_takenDrawn_z hp f1 w1 hc hf ⟨h5, h4, Nat.le_refl _, hb⟩ hq 0
  | succ d ih =>
    intro k z b σ h1 hc hf h4 h5 hb hB
    have z4 : (4 : Int32).toNatClampNeg = 4 := by decide
    have h24 : (2 : Nat) ^ k ≤ 2 ^ 23 := Nat.pow_le_pow_right (by decide) (by omega)
    have step : ∀ b', (if pp_dc (pp_dz z) = 0 then b else b ||| 2 ^ k) = b' → b' < 2 ^ (k + 1) → mmw_takenDrawn_24 Q (d + 1) (nI p) (pp_dz z) (nI (k + 1)) (gg_s σ 4 4 (nI b')) := by
      intro b' hb' hlt
      refine ih (k + 1) (pp_dz z) b' _ (by omega) (ma_C_4 (Or.inl rfl) hc) (ma_fc_tr (ma_fc_4 ⟨Or.inl rfl, by decide⟩) hf) (by rw [gg_gs, if_pos ⟨rfl, rfl⟩]) (by rw [gg_row _ _ _ _ (show (5 : Nat) ≠ 4 by decide)]; exact h5) hlt ?_
      rw [← hb', ← pp_db_s]
      exact hB
    have hpow : (2 : Nat) ^ (k + 1) = 2 ^ k * 2 := Nat.pow_succ 2 k
    unfold mmw_takenDrawn_24
    rw [show (24 : Int32) = nI 24 from rfl, nI_leI (by omega) (by omega)]
    rw [show (z * (1103515245 : Int32)) + (12345 : Int32) = pp_dz z from rfl]
    refine ⟨fun q => by omega, fun _ => ⟨ml_in (n := 4) (by decide) (by decide), fun e => ?_, fun e => ?_⟩⟩
    · have e : pp_dc (pp_dz z) = 0 := by unfold pp_dc; exact e
      unfold mmw_takenDrawn_65
      rw [z4, h4, show (0 : Int32) = nI 0 from rfl, ml_or, Nat.or_zero, nI_1]
      refine ⟨ml_in (n := 4) (by decide) (by decide), ?_⟩
      rintro _ rfl
      exact step b (if_pos e) (by omega)
    · have e : ¬ pp_dc (pp_dz z) = 0 := by unfold pp_dc; exact e
      unfold mmw_takenDrawn_65
      rw [z4, h4, show (1 : Int32) <<< (nI k &&& 31) = nI (2 ^ k) from by rw [show (1 : Int32) = nI 1 from rfl, ml_shl (by omega) (by omega), Nat.one_mul], ml_or, nI_1]
      refine ⟨ml_in (n := 4) (by decide) (by decide), ?_⟩
      rintro _ rfl
      exact step _ (if_neg e) (Nat.or_lt_two_pow (by omega) (by omega))
theorem ms_takenDrawn {K : pp_K} {c : pp_C} {p : Nat} {z : Int32} (hc : ma_C σ K c) (hp : p < K.many) (hq : ∀ σ', ma_th σ' σ → Q (pp_drawn K c p z) σ') : mmw_takenDrawn z (nI p) σ Q := by
  unfold mmw_takenDrawn
  refine ms_laysAside (fun s1 f1 w1 => ⟨ml_in (n := 4) (by decide) (by decide), ?_⟩)
  rintro _ rfl
  refine ⟨ml_in (n := 4) (by decide) (by decide), ?_⟩
  rintro _ rfl
  rw [show (4 : Int32).toNatClampNeg = 4 from by decide]
  have hc1 : ma_C s1 K c := ma_C_e1 (S := [14]) hc (fun i k _ b => f1 i k (fun z => b (by rw [z]; decide))) (by decide)
  refine ⟨25, ms_takenDrawn_24 hp f1 w1 hq 24 0 z 0 _ (by decide) (ma_C_4 (Or.inr rfl) (ma_C_4 (Or.inl rfl) hc1)) (ma_fc_tr (ma_fc_4 ⟨Or.inr rfl, by decide⟩) (ma_fc_4 ⟨Or.inl rfl, by decide⟩)) ?_ ?_ (by decide) rfl⟩
  · rw [gg_row _ _ _ _ (show (4 : Nat) ≠ 5 by decide), gg_gs, if_pos ⟨rfl, rfl⟩]
    rfl
  · rw [gg_gs, if_pos ⟨rfl, rfl⟩]
def po_drawn (s : pp_S) (z one : Int32) : Int32 := match pp_ix one s.g.1 with
  | none => -100
  | some p => pp_drawn s.K s.c p z
theorem ms_drawn {z one : Int32} (h : RM σ s) (hq : ∀ σ', RM σ' s → Q (po_drawn s z one) σ') : mmw_drawn z one σ Q := by
  have hm' : s.g.1 ≤ 5 := h.1.1
  unfold po_drawn at hq
  unfold mmw_drawn
  refine ms_isOne (n := s.g.1) h.1.2.1 hm' (fun p hp e => ml_1 ?_) (fun e => ml_0 ?_)
  · subst e
    rw [pp_ix_some (n := s.g.1) hp (by omega)] at hq
    exact ms_takenDrawn h.1 hp (fun σ' e => hq σ' (RM_th h e))
  · rw [pp_ix_none (n := s.g.1) (by omega) e] at hq
    exact hq σ h
/-- how many of so many rows give one that much -/
def pp_ch (K : pp_K) (c : pp_C) (p : Nat) (z k : Int32) : Nat → Nat → Nat → Nat
  | 0, _, n => n
  | d + 1, i, n => pp_ch K c p z k d (i + 1) (if pp_drawn K c p (z + nI i) < k then n else n + 1)
def po_chance (s : pp_S) (z m one k w : Int32) : Int64 := match pp_ix m 21 with
  | none => -4611686018427387904
  | some M => if M = 0 then -4611686018427387904 else match pp_ix one s.g.1 with
    | none => -4611686018427387904
    | some p => if (pp_ix k 25).isSome ∧ (pp_ix w 2).isSome then pp_low (pp_ch s.K s.c p z k M 0 0) M w else -4611686018427387904
theorem pp_ch_le {K : pp_K} {c : pp_C} {p : Nat} {z k : Int32} : ∀ d i n : Nat, pp_ch K c p z k d i n ≤ n + d := by
  intro d
  induction d with
  | zero => intro i n; exact Nat.le_refl _
  | succ d ih =>
    intro i n
    unfold pp_ch
    have := ih (i + 1) (if pp_drawn K c p (z + nI i) < k then n else n + 1)
    have h2 : (if pp_drawn K c p (z + nI i) < k then n else n + 1) ≤ n + 1 := by split <;> omega
    omega
theorem ms_chance_54 {Q : Int64 → gg_S → Prop} {p M : Nat} {z k w : Int32} {X : Nat} (hp : p < s.g.1) (h0 : 0 < M) (hM : M ≤ 20) (hX : X ≤ 20) (hq : ∀ σ', RM σ' s → Q (pp_low X M w) σ') :
    ∀ (d i n : Nat) (σ : gg_S), i + d = M → n ≤ 20 → RM σ s → pp_ch s.K s.c p z k d i n = X → mmw_chance_54 Q (d + 1) z (nI M) (nI p) k w (lN n) (nI i) σ := by
  intro d
  induction d with
  | zero =>
    intro i n σ h1 hn h hx
    have hx : n = X := hx
    subst hx
    unfold mmw_chance_54
    rw [nI_leI (by omega) (by omega), nI_l (by omega)]
    exact ⟨fun _ => ms_lowest (by omega) (by omega) h0 (hq σ h), fun q => absurd (show M ≤ i by omega) q⟩
  | succ d ih =>
    intro i n σ h1 hn h hx
    unfold pp_ch at hx
    have hb : ∀ n', (if pp_drawn s.K s.c p (z + nI i) < k then n else n + 1) = n' → n' ≤ 20 := fun n' e => by
      rw [e] at hx
      have : n' ≤ pp_ch s.K s.c p z k d (i + 1) n' := by
        clear hx ih e
        have : ∀ d i n', n' ≤ pp_ch s.K s.c p z k d i n' := by
          intro d
          induction d with
          | zero => intro i n'; exact Nat.le_refl _
          | succ d ih =>
            intro i n'
            unfold pp_ch
            have := ih (i + 1) (if pp_drawn s.K s.c p (z + nI i) < k then n' else n' + 1)
            split at this
            · rename_i h9; rw [if_pos h9]; exact this
            · rename_i h9; rw [if_neg h9]; omega
        exact this d (i + 1) n'
      omega
    unfold mmw_chance_54 mmw_chance_81
    rw [nI_leI (by omega) (by omega), nI_1, lN_1, Int64.add_zero]
    refine ⟨fun q => by omega, fun _ => ms_takenDrawn h.1 hp (fun σ' e => ⟨fun hlt => ?_, fun hlt => ?_⟩)⟩
    · have := hb n (if_pos hlt)
      rw [if_pos hlt] at hx
      exact ih (i + 1) n σ' (by omega) this (RM_th h e) hx
    · have := hb (n + 1) (if_neg hlt)
      rw [if_neg hlt] at hx
      exact ih (i + 1) (n + 1) σ' (by omega) this (RM_th h e) hx
theorem ms_chance {Q : Int64 → gg_S → Prop} {z m one k w : Int32} (h : RM σ s) (hq : ∀ σ', RM σ' s → Q (po_chance s z m one k w) σ') : mmw_chance z m one k w σ Q := by
  have hm' : s.g.1 ≤ 5 := h.1.1
  unfold po_chance at hq
  unfold mmw_chance
  refine ms_inc (a := 1) (z := 20) (by decide) (by decide) (fun hg => ml_1 ?_) (fun hg => ml_0 ?_)
  · obtain ⟨M, hM, e⟩ : ∃ n : Nat, (1 ≤ n ∧ n ≤ 20) ∧ m = nI n := ⟨m.toInt.toNat, by omega, by rw [← ml_iNat (by omega), Int32.ofInt_toInt]⟩
    subst e
    rw [pp_ix_some (show M < 21 by omega) (by decide)] at hq
    dsimp only at hq
    rw [if_neg (by omega)] at hq
    refine ms_isOne (n := s.g.1) h.1.2.1 hm' (fun p hp e => ml_1 ?_) (fun e => ml_0 ?_)
    · subst e
      rw [pp_ix_some (n := s.g.1) hp (by omega)] at hq
      dsimp only at hq
      refine ms_lt (n := 25) (by decide) (by decide) (fun k' hk e => ml_1 ?_) (fun e => ml_0 ?_)
      · have e2 : (pp_ix k 25).isSome = true := by rw [e, pp_ix_some hk (by decide)]; rfl
        refine ms_lt (n := 2) (by decide) (by decide) (fun w' hw e3 => ml_1 ?_) (fun e3 => ml_0 ?_)
        · have e4 : (pp_ix w 2).isSome = true := by rw [e3, pp_ix_some hw (by decide)]; rfl
          rw [if_pos ⟨e2, e4⟩] at hq
          have hle := pp_ch_le (K := s.K) (c := s.c) (p := p) (z := z) (k := k) M 0 0
          exact ⟨M + 1, ms_chance_54 (X := pp_ch s.K s.c p z k M 0 0) hp (by omega) (by omega) (by omega) hq M 0 0 σ (by omega) (by decide) h rfl⟩
        · rw [if_neg (fun q => by rw [pp_ix_none (by decide) e3] at q; exact absurd q.2 (by decide))] at hq
          exact hq σ h
      · rw [if_neg (fun q => by rw [pp_ix_none (by decide) e] at q; exact absurd q.1 (by decide))] at hq
        exact hq σ h
    · rw [pp_ix_none (n := s.g.1) (by omega) e] at hq
      exact hq σ h
  · by_cases h0 : m = nI 0
    · subst h0
      rw [pp_ix_some (show 0 < 21 by decide) (by decide)] at hq
      exact hq σ h
    · rw [pp_ix_none (by decide) (fun k hk e => by
        subst e
        rw [nI_toInt (by omega)] at hg
        have : k ≠ 0 := fun z => h0 (by rw [z])
        omega)] at hq
      exact hq σ h
end MV
