/-! THE REFERENCE IN THOUGHT: what is laid aside and back; glean nights; tries -/
section MO
variable {K : pp_K} {c : pp_C} {σ : gg_S}
/-- what cell 14 keeps -/
def mo_was (σ' σ : gg_S) : Prop := (∀ k, k < 5 → gg_g σ' 14 k = gg_g σ 4 k ∧ gg_g σ' 14 (5 + k) = gg_g σ 5 k ∧ gg_g σ' 14 (10 + k) = gg_g σ 7 (2 * k + 1)) ∧ gg_g σ' 14 15 = gg_g σ 0 7
theorem ml_ad (a k : Nat) : nI a + nI k = nI (a + k) := nI_add a k
theorem ms_laysAside_2 {Q : gg_S → Prop} {σ0 : gg_S} (hq : ∀ σ', (∀ i k, i ≠ 14 → gg_g σ' i k = gg_g σ0 i k) → mo_was σ' σ0 → Q σ') :
    ∀ (d k : Nat) (σ : gg_S), k + d = 5 → (∀ i q, i ≠ 14 → gg_g σ i q = gg_g σ0 i q) → (∀ j, j < k → gg_g σ 14 j = gg_g σ0 4 j ∧ gg_g σ 14 (5 + j) = gg_g σ0 5 j ∧ gg_g σ 14 (10 + j) = gg_g σ0 7 (2 * j + 1)) → mmw_laysAside_2 Q (d + 1) (nI k) σ := by
  intro d
  induction d with
  | zero =>
    intro k σ h1 h2 h3
    unfold mmw_laysAside_2
    rw [show (5 : Int32) = nI 5 from rfl, nI_leI (by omega) (by omega)]
    refine ⟨fun _ => ⟨ml_in (n := 15) (by decide) (by decide), ?_⟩, fun z => absurd (show 5 ≤ k by omega) z⟩
    rintro _ rfl
    rw [show (15 : Int32).toNatClampNeg = 15 from rfl, h2 0 7 (by decide)]
    refine hq _ (fun i q hi => ?_) ⟨fun j hj => ?_, ?_⟩
    · rw [gg_gs, if_neg (fun z => hi z.1)]
      exact h2 i q hi
    · rw [gg_gs, gg_gs, gg_gs, if_neg (by omega), if_neg (by omega), if_neg (by omega)]
      exact h3 j (by omega)
    · rw [gg_gs, if_pos ⟨rfl, rfl⟩]
  | succ d ih =>
    intro k σ h1 h2 h3
    unfold mmw_laysAside_2
    rw [show (5 : Int32) = nI 5 from rfl, show (10 : Int32) = nI 10 from rfl, nI_leI (by omega) (by omega), ml_21, ml_ad, ml_ad, ml_cl (by omega), ml_cl (by omega), ml_cl (by omega), ml_cl (by omega)]
    refine ⟨fun z => by omega, fun _ => ⟨ml_in (by omega) (by decide), ml_in (by omega) (by decide), ?_⟩⟩
    rintro _ rfl
    refine ⟨ml_in (by omega) (by decide), ml_in (by omega) (by decide), ?_⟩
    rintro _ rfl
    refine ⟨ml_in (by omega) (by decide), ml_in (by omega) (by decide), ?_⟩
    rintro _ rfl
    rw [nI_1]
    refine ih (k + 1) _ (by omega) (fun i q hi => ?_) (fun j hj => ?_)
    · rw [gg_gs, if_neg (fun z => hi z.1), gg_gs, if_neg (fun z => hi z.1), gg_gs, if_neg (fun z => hi z.1)]
      exact h2 i q hi
    · rw [gg_row _ 14 _ _ (show (7 : Nat) ≠ 14 by decide), gg_row _ 14 _ _ (show (7 : Nat) ≠ 14 by decide), gg_row _ 14 _ _ (show (5 : Nat) ≠ 14 by decide), h2 4 k (by decide), h2 5 k (by decide), h2 7 (2 * k + 1) (by decide)]
      simp only [gg_gs]
      by_cases e : j = k
      · subst e
        refine ⟨?_, ?_, ?_⟩
        · rw [if_neg (by omega), if_neg (by omega), if_pos ⟨trivial, rfl⟩]
        · rw [if_neg (by omega), if_pos ⟨trivial, rfl⟩]
        · rw [if_pos ⟨trivial, rfl⟩]
      · rw [if_neg (by omega), if_neg (by omega), if_neg (by omega), if_neg (by omega), if_neg (by omega), if_neg (by omega), if_neg (by omega), if_neg (by omega), if_neg (by omega)]
        exact h3 j (by omega)
theorem ms_laysAside {Q : gg_S → Prop} (hq : ∀ σ', (∀ i k, i ≠ 14 → gg_g σ' i k = gg_g σ i k) → mo_was σ' σ → Q σ') : mmw_laysAside σ Q :=
  ⟨6, ms_laysAside_2 hq 5 0 σ (by decide) (fun _ _ _ => rfl) (fun j hj => by omega)⟩
theorem ms_laysBack_2 {Q : gg_S → Prop} {σ0 w : gg_S} (hw : mo_was σ0 w) (hq : ∀ σ', (∀ i k, ¬ ((i = 4 ∨ i = 5) ∧ k < 5) → ¬ (i = 7 ∧ k % 2 = 1 ∧ k < 10) → ¬ (i = 0 ∧ k = 7) → gg_g σ' i k = gg_g σ0 i k) →
      (∀ k, k < 5 → gg_g σ' 4 k = gg_g w 4 k ∧ gg_g σ' 5 k = gg_g w 5 k ∧ gg_g σ' 7 (2 * k + 1) = gg_g w 7 (2 * k + 1)) → gg_g σ' 0 7 = gg_g w 0 7 → Q σ') :
    ∀ (d k : Nat) (σ : gg_S), k + d = 5 → (∀ i q, ¬ ((i = 4 ∨ i = 5) ∧ q < k) → ¬ (i = 7 ∧ q % 2 = 1 ∧ q < 2 * k) → gg_g σ i q = gg_g σ0 i q) → (∀ j, j < k → gg_g σ 4 j = gg_g w 4 j ∧ gg_g σ 5 j = gg_g w 5 j ∧ gg_g σ 7 (2 * j + 1) = gg_g w 7 (2 * j + 1)) → mmw_laysBack_2 Q (d + 1) (nI k) σ := by
  intro d
  induction d with
  | zero =>
    intro k σ h1 h2 h3
    unfold mmw_laysBack_2
    rw [show (5 : Int32) = nI 5 from rfl, nI_leI (by omega) (by omega)]
    refine ⟨fun _ => ⟨ml_in (n := 15) (by decide) (by decide), ?_⟩, fun z => absurd (show 5 ≤ k by omega) z⟩
    rintro _ rfl
    rw [show (15 : Int32).toNatClampNeg = 15 from rfl, h2 14 15 (by omega) (by omega), hw.2]
    refine hq _ (fun i q a b e => ?_) (fun j hj => ?_) gg_me
    · rw [gg_gs, if_neg e]
      exact h2 i q (fun z => a ⟨z.1, by omega⟩) (fun z => b ⟨z.1, z.2.1, by omega⟩)
    · rw [gg_row _ 0 _ _ (show (4 : Nat) ≠ 0 by decide), gg_row _ 0 _ _ (show (5 : Nat) ≠ 0 by decide), gg_row _ 0 _ _ (show (7 : Nat) ≠ 0 by decide)]
      exact h3 j (by omega)
  | succ d ih =>
    intro k σ h1 h2 h3
    obtain ⟨w1, w2, w3⟩ := hw.1 k (by omega)
    unfold mmw_laysBack_2
    rw [show (5 : Int32) = nI 5 from rfl, show (10 : Int32) = nI 10 from rfl, nI_leI (by omega) (by omega), ml_21, ml_ad, ml_ad, ml_cl (by omega), ml_cl (by omega), ml_cl (by omega), ml_cl (by omega)]
    refine ⟨fun z => by omega, fun _ => ⟨ml_in (by omega) (by decide), ml_in (by omega) (by decide), ?_⟩⟩
    rintro _ rfl
    refine ⟨ml_in (by omega) (by decide), ml_in (by omega) (by decide), ?_⟩
    rintro _ rfl
    refine ⟨ml_in (by omega) (by decide), ml_in (by omega) (by decide), ?_⟩
    rintro _ rfl
    rw [nI_1, gg_row _ 5 _ _ (show (14 : Nat) ≠ 5 by decide), gg_row _ 4 _ _ (show (14 : Nat) ≠ 4 by decide), h2 14 k (by omega) (by omega), h2 14 (5 + k) (by omega) (by omega), h2 14 (10 + k) (by omega) (by omega), w1, w2, w3]
    refine ih (k + 1) _ (by omega) (fun i q a b => ?_) (fun j hj => ?_)
    · rw [gg_gs, if_neg (by omega), gg_gs, if_neg (by omega), gg_gs, if_neg (by omega)]
      exact h2 i q (fun z => a ⟨z.1, by omega⟩) (fun z => b ⟨z.1, z.2.1, by omega⟩)
    · simp only [gg_gs]
      by_cases e : j = k
      · subst e
        refine ⟨?_, ?_, ?_⟩
        · rw [if_neg (by omega), if_neg (by omega), if_pos ⟨trivial, rfl⟩]
        · rw [if_neg (by omega), if_pos ⟨trivial, rfl⟩]
        · rw [if_pos ⟨trivial, rfl⟩]
      · rw [if_neg (by omega), if_neg (by omega), if_neg (by omega), if_neg (by omega), if_neg (by omega), if_neg (by omega), if_neg (by omega), if_neg (by omega), if_neg (by omega)]
        exact h3 j (by omega)
/-- in thought: scratch alone has changed -/
def ma_th (σ' σ : gg_S) : Prop := ∀ i k, (i = 0 → k ∈ ma_k0) → i ∉ [8, 9, 10, 12, 13, 14] → gg_g σ' i k = gg_g σ i k
theorem ma_th_e1 {x y : gg_S} (h : ma_th x y) : ma_e1 [8, 9, 10, 12, 13, 14] x y := h
/-- back from thought: what was gleaned and slept is as it was -/
theorem ms_laysBack {Q : gg_S → Prop} {w s1 : gg_S} (h1 : ∀ i k, i ≠ 14 → gg_g s1 i k = gg_g w i k) (hw : mo_was s1 w) (hf : ma_fc σ s1) (hq : ∀ σ', ma_th σ' w → ma_e1 [0, 4, 5, 7] σ' σ → Q σ') : mmw_laysBack σ Q := by
  have hw' : mo_was σ w := by
    refine ⟨fun k hk => ?_, ?_⟩
    · rw [hf 14 k (by omega) (by decide) (by omega) (by omega), hf 14 (5 + k) (by omega) (by decide) (by omega) (by omega), hf 14 (10 + k) (by omega) (by decide) (by omega) (by omega)]
      exact hw.1 k hk
    · rw [hf 14 15 (by omega) (by decide) (by omega) (by omega)]
      exact hw.2
  refine ⟨6, ms_laysBack_2 hw' (fun σ' f b n => hq σ' (fun i k a s => ?_) (fun i k a s => ?_)) 5 0 σ (by decide) (fun i q _ _ => rfl) (fun j hj => by omega)⟩
  · by_cases e7 : i = 0 ∧ k = 7
    · rw [e7.1, e7.2]; exact n
    · by_cases e4 : (i = 4 ∨ i = 5) ∧ k < 5
      · obtain ⟨rfl | rfl, hk⟩ := e4
        · exact (b k hk).1
        · exact (b k hk).2.1
      · by_cases e9 : i = 7 ∧ k % 2 = 1 ∧ k < 10
        · obtain ⟨rfl, e1, e2⟩ := e9
          have := (b (k / 2) (by omega)).2.2
          rw [show 2 * (k / 2) + 1 = k by omega] at this
          exact this
        · rw [f i k e4 e9 e7, hf i k ?_ (fun z => s ((show ∀ i, i ∈ [8, 9, 10, 12, 13] → i ∈ [8, 9, 10, 12, 13, 14] by decide) i z)) e4 e9]
          · exact h1 i k (fun z => s (by rw [z]; decide))
          · intro hi
            have hk := a hi
            have h7 : k ≠ 7 := fun z => e7 ⟨hi, z⟩
            have key : ∀ k, k ∈ ma_k0 → k ≠ 7 → k ∈ [3, 4, 6, 12, 35, 36, 40, 41, 42] := by decide
            exact key k hk h7
  · exact f i k (fun z => s (by rcases z.1 with h | h <;> (rw [h]; decide))) (fun z => s (by rw [z.1]; decide)) (fun z => s (by rw [z.1]; decide))
/-- the greatest of some runs -/
def pp_gt : List (Nat × Nat) → Nat → Nat
  | [], m => m
  | q :: l, m => pp_gt l (if m < q.2 then q.2 else m)
theorem pp_rn_sz (b L : Nat) : ∀ d k : Nat, L - k ≤ d → ∀ q, q ∈ pp_rn b L k → k ≤ q.1 ∧ q.1 + q.2 ≤ L ∧ 0 < q.2 := by
  intro d
  induction d with
  | zero =>
    intro k h q hq
    rw [pp_rn_end (by omega)] at hq
    simp at hq
  | succ d ih =>
    intro k h q hq
    by_cases hk : k < L
    · by_cases g : pp_gap b L k
      · rw [pp_rn_gap g] at hq
        have h1 := pp_gz_pos g
        have h2 := pp_gz_le b L L k (by omega)
        rcases List.mem_cons.1 hq with e | e
        · rw [e]
          exact ⟨Nat.le_refl _, by show k + pp_gz b L k ≤ L; omega, by show 0 < pp_gz b L k; omega⟩
        · have := ih (k + pp_gz b L k) (by omega) q e
          exact ⟨by omega, this.2⟩
      · rw [pp_rn_no hk g] at hq
        have := ih (k + 1) (by omega) q hq
        exact ⟨by omega, this.2⟩
    · rw [pp_rn_end (by omega)] at hq
      simp at hq
theorem pp_runs_sz {b L : Nat} {q : Nat × Nat} (h : q ∈ pp_runs b L) : q.1 + q.2 ≤ L := (pp_rn_sz b L L 0 (by omega) q h).2.1
theorem ms_greatestOf_11 {Q : Int32 → gg_S → Prop} {all : List (Nat × Nat)} (hal : all.length ≤ 24) (hsz : ∀ q, q ∈ all → q.2 ≤ 24) (hru : ma_runs σ all) :
    ∀ (rest : List (Nat × Nat)) (k m : Nat), all.drop k = rest → k ≤ all.length → m ≤ 24 → Q (nI (pp_gt rest m)) σ → mmw_greatestOf_11 Q (rest.length + 1) (nI all.length) (nI m) (nI k) σ := by
  intro rest
  induction rest with
  | nil =>
    intro k m h1 h2 h3 hq
    have : all.length ≤ k := by
      have := congrArg List.length h1
      rw [List.length_drop] at this
      simp at this
      omega
    unfold mmw_greatestOf_11
    rw [nI_leI (by omega) (by omega)]
    exact ⟨fun _ => hq, fun z => absurd this z⟩
  | cons q rest ih =>
    intro k m h1 h2 h3 hq
    have hk : k < all.length := by
      have := congrArg List.length h1
      rw [List.length_drop] at this
      simp at this
      omega
    have hg : all[k]? = some q := by
      have := congrArg (fun l => l[0]?) h1
      simpa using this
    have hmem : q ∈ all := List.mem_of_getElem? hg
    have h24 := hsz q hmem
    have hdr : all.drop (k + 1) = rest := by
      have := congrArg (List.drop 1) h1
      rw [List.drop_drop] at this
      simpa [Nat.add_comm] using this
    unfold mmw_greatestOf_11
    rw [nI_leI (by omega) (by omega), ml_cl (by omega), (hru k q hg).2, nI_leI (by omega) (by omega)]
    unfold pp_gt at hq
    unfold mmw_greatestOf_39
    rw [nI_1]
    refine ⟨fun z => by omega, fun _ => ⟨ml_in (by omega) (by decide), fun h => ?_, fun h => ⟨ml_in (by omega) (by decide), ?_⟩⟩⟩
    · rw [if_neg (by omega)] at hq
      exact ih (k + 1) m hdr (by omega) h3 hq
    · rw [if_pos (by omega)] at hq
      exact ih (k + 1) q.2 hdr (by omega) h24 hq
theorem ms_greatestOf {Q : Int32 → gg_S → Prop} {r L b : Nat} (hr : r < 5) (h : ma_row σ r L b) (hq : ∀ σ', ma_f89 σ' σ → Q (nI (pp_gt (pp_runs b L) 0)) σ') : mmw_greatestOf (nI r) σ Q := by
  have hL := h.2.2.1
  have hlen : (pp_runs b L).length ≤ L := pp_rn_len b L L 0 (by omega)
  unfold mmw_greatestOf
  exact ms_runsOf hr h (fun σ1 hf hru => ⟨_, ms_greatestOf_11 (by omega) (fun q hm => by have := pp_runs_sz hm; omega) hru _ 0 0 rfl (Nat.zero_le _) (by decide) (hq σ1 hf)⟩)
/-- all glean a row, one after the other; nights -/
def pp_alls (K : pp_K) (r : Nat) : Nat → pp_C → pp_C
  | 0, c => c
  | n + 1, c => pp_gc K (pp_alls K r n c) n r
def pp_nts (K : pp_K) (r : Nat) : Nat → pp_C → pp_C
  | 0, c => c
  | n + 1, c => pp_pass K (pp_alls K r K.many (pp_nts K r n c))
theorem ms_gleanNights_10 {Q : gg_S → Prop} {K2 : Int32 → Int32 → Int32 → gg_S → Prop} {r : Nat} {x2 x3 : Int32} {σ0 : gg_S} (hr : r < 4) (hq : ∀ σ', ma_C σ' K (pp_pass K (pp_alls K r K.many c)) → ma_fc σ' σ0 → K2 (nI r) x2 (x3 + 1) σ') :
    ∀ (d k : Nat) (σ : gg_S), k + d = K.many → ma_C σ K (pp_alls K r k c) → ma_fc σ σ0 → mmw_gleanNights_10 Q K2 (d + 1) (nI r) x2 x3 (nI k) σ := by
  intro d
  induction d with
  | zero =>
    intro k σ h1 hc hf
    have h5 := hc.1
    obtain rfl : k = K.many := by omega
    unfold mmw_gleanNights_10
    rw [hc.2.1, nI_leI (by omega) (by omega)]
    exact ⟨fun _ => ms_passes hc (fun σ' h f => hq σ' h (ma_fc_tr f hf)), fun z => absurd (Nat.le_refl _) z⟩
  | succ d ih =>
    intro k σ h1 hc hf
    have h5 := hc.1
    unfold mmw_gleanNights_10
    rw [hc.2.1, nI_leI (by omega) (by omega)]
    refine ⟨fun z => by omega, fun _ => ms_gleansC hc (by omega) hr (fun σ' h _ f => ?_)⟩
    rw [nI_1]
    exact ih (k + 1) σ' (by omega) h (ma_fc_tr f hf)
theorem ms_gleanNights_2 {Q : gg_S → Prop} {r n : Nat} {σ0 : gg_S} (hr : r < 4) (hn : n < 2 ^ 30) (hq : ∀ σ', ma_C σ' K (pp_nts K r n c) → ma_fc σ' σ0 → Q σ') :
    ∀ (d k : Nat) (σ : gg_S), k + d = n → ma_C σ K (pp_nts K r k c) → ma_fc σ σ0 → mmw_gleanNights_2 Q (d + 1) (nI r) (nI n) (nI k) σ := by
  intro d
  induction d with
  | zero =>
    intro k σ h1 hc hf
    obtain rfl : k = n := by omega
    unfold mmw_gleanNights_2
    rw [nI_leI (by omega) (by omega)]
    exact ⟨fun _ => hq σ hc hf, fun z => absurd (Nat.le_refl _) z⟩
  | succ d ih =>
    intro k σ h1 hc hf
    unfold mmw_gleanNights_2
    rw [nI_leI (by omega) (by omega)]
    refine ⟨fun z => by omega, fun _ => ⟨K.many + 1, ms_gleanNights_10 (c := pp_nts K r k c) (σ0 := σ0) hr (fun σ' h f => ?_) K.many 0 σ (by omega) hc hf⟩⟩
    rw [nI_1]
    exact ih (k + 1) σ' (by omega) h f
theorem ms_gleanNights {Q : gg_S → Prop} {r n : Nat} (hr : r < 4) (hn : n < 2 ^ 30) (hc : ma_C σ K c) (hq : ∀ σ', ma_C σ' K (pp_nts K r n c) → ma_fc σ' σ → Q σ') : mmw_gleanNights (nI r) (nI n) σ Q :=
  ⟨n + 1, ms_gleanNights_2 hr hn hq n 0 σ (by omega) hc ma_fc_rf⟩
/-- what would come of one gleaning -/
def pp_try (K : pp_K) (c : pp_C) (p r : Nat) (w : Int32) : Int32 :=
  if w = 0 then Int32.ofInt (pp_gr K c p r).1.2.2.2 else if w = 1 then pp_left (pp_gr K c p r).1.2.1 (pp_gr K c p r).1.1
  else if w = 2 then nI (pp_gr K c p r).1.2.2.1 else nI (pp_gt (pp_runs (pp_gr K c p r).1.1 (pp_gr K c p r).1.2.1) 0)
theorem ma_C_th {x y : gg_S} (h : ma_C x K c) (e : ma_th y x) : ma_C y K c := ma_C_e1 h (S := [8, 9, 10, 12, 13, 14]) e (by decide)
theorem pp_up_me {f : Nat → Nat} {k v : Nat} : pp_up f k v k = v := if_pos rfl
theorem ms_triesOf {Q : Int32 → gg_S → Prop} {p r : Nat} {w : Int32} (hc : ma_C σ K c) (hp : p < K.many) (hr : r < 4) (hq : ∀ σ', ma_th σ' σ → ma_took σ' (pp_gr K c p r).2 → Q (pp_try K c p r w) σ') : mmw_triesOf (nI p) (nI r) w σ Q := by
  have h5 := hc.1
  unfold mmw_triesOf
  refine ms_laysAside (fun s1 f1 w1 => ?_)
  have hc1 : ma_C s1 K c := ma_C_e1 (S := [14]) hc (fun i k _ b => f1 i k (fun z => b (by rw [z]; decide))) (by decide)
  refine ms_gleansC hc1 hp hr (fun σ2 hc2 tk2 f2 => ?_)
  have fin : ∀ (v : Int32) (σ3 : gg_S), v = pp_try K c p r w → ma_fc σ3 s1 → (∀ k, gg_g σ3 10 k = gg_g σ2 10 k) → mmw_triesOf_57 Q v σ3 := by
    intro v σ3 hv f3 h10
    unfold mmw_triesOf_57
    refine ms_laysBack f1 w1 f3 (fun σ' h e => ?_)
    rw [hv]
    exact hq σ' h (fun j t hj => by rw [e 10 j (fun z => absurd z (by decide)) (by decide), h10 j]; exact tk2 j t hj)
  have hrow := hc2.2.2.1 r hr
  rw [show (pp_gc K c p r).L r = (pp_gr K c p r).1.2.1 from pp_up_me, show (pp_gc K c p r).b r = (pp_gr K c p r).1.1 from pp_up_me] at hrow
  have hfo := (hc2.2.2.2.1 p hp).2.2.1
  rw [show (pp_gc K c p r).ap p = (pp_gr K c p r).1.2.2.1 from pp_up_me] at hfo
  refine ⟨fun h => fin _ σ2 ?_ f2 (fun _ => rfl), fun h0 => ⟨fun h => ms_leftOf (by omega) hrow (fin _ σ2 ?_ f2 (fun _ => rfl)), fun h1 => ⟨fun h => ⟨?_, fin _ σ2 ?_ f2 (fun _ => rfl)⟩, fun h2 => ms_greatestOf (by omega) hrow (fun σ3 f3 => fin _ σ3 ?_ (ma_fc_tr (fun i k _ b _ _ => f3 i k (fun z => b (by rw [z]; decide)) (fun z => b (by rw [z]; decide))) f2) (fun k => f3 10 k (by decide) (by decide)))⟩⟩⟩
  · unfold pp_try; rw [if_pos h]
  · unfold pp_try; rw [if_neg h0, if_pos h]; rfl
  · rw [ml_21]; exact ml_in (by omega) (by decide)
  · rw [ml_21, ml_cl (by omega), hfo]
    unfold pp_try; rw [if_neg h0, if_neg h1, if_pos h]
  · unfold pp_try; rw [if_neg h0, if_neg h1, if_neg h2]
end MO
