/-! THE CORE: rows, aprons, the night; what gleaning and a night do to them -/
/-- stalks, lengths, aprons, the night -/
abbrev pp_C : Type := (Nat → Nat) × (Nat → Nat) × (Nat → Nat) × Nat
abbrev pp_C.b (c : pp_C) : Nat → Nat := c.1
abbrev pp_C.L (c : pp_C) : Nat → Nat := c.2.1
abbrev pp_C.ap (c : pp_C) : Nat → Nat := c.2.2.1
abbrev pp_C.nt (c : pp_C) : Nat := c.2.2.2
/-- how many, kinds, numbers, what the text says -/
abbrev pp_K : Type := Nat × (Nat → Nat) × (Nat → Nat) × (Nat → pp_F)
abbrev pp_K.many (c : pp_K) : Nat := c.1
abbrev pp_K.kd (c : pp_K) : Nat → Nat := c.2.1
abbrev pp_K.num (c : pp_K) : Nat → Nat := c.2.2.1
abbrev pp_K.f (c : pp_K) : Nat → pp_F := c.2.2.2
/-- gleaner p's way with a run -/
def pp_way (K : pp_K) (nt p : Nat) : Nat → Nat → Nat → Nat → Int := ma_tk K.f (nI nt) (K.kd p) (K.num p)
def pp_gr (K : pp_K) (c : pp_C) (p r : Nat) : (Nat × Nat × Nat × Int) × List Int := pp_gl (pp_way K c.nt p) (pp_runs (c.b r) (c.L r)) 0 (c.b r) (c.L r) (c.ap p) 0
def pp_up (f : Nat → Nat) (k v : Nat) : Nat → Nat := fun j => if j = k then v else f j
/-- gleaner p gleans row r -/
def pp_gc (K : pp_K) (c : pp_C) (p r : Nat) : pp_C := (pp_up c.b r (pp_gr K c p r).1.1, pp_up c.L r (pp_gr K c p r).1.2.1, pp_up c.ap p (pp_gr K c p r).1.2.2.1, c.nt)
def pp_left (L b : Nat) : Int32 := nI L - nI (pp_pc 31 b)
/-- what is kept of an apron -/
def pp_keep (K : pp_K) (c : pp_C) (p : Nat) : Nat :=
  if K.kd p = 2 then c.ap p else if K.kd p = 4 then c.ap p / 2 else if K.kd p = 5 then 0
  else (pp_cl 0 999 ((c.ap p * ma_say K.f 1 100 (ma_env 0 0 (nI (K.num p)) (nI c.nt) (nI (c.ap p)) 0) / 100 : Nat) - (if K.kd p = 3 then (K.num p : Int) else 0))).toNat
def pp_shake (K : pp_K) (c : pp_C) (r : Nat) : Nat := ma_say K.f 2 9 (ma_env (pp_left (c.L r) (c.b r)) 0 0 (nI c.nt) 0 (nI r))
/-- a night passes -/
def pp_pass (K : pp_K) (c : pp_C) : pp_C := (c.b, fun r => if r < 4 then (pp_cl 0 24 ((c.L r + pp_shake K c r : Nat) : Int)).toNat else c.L r, fun p => if p < K.many then pp_keep K c p else c.ap p, c.nt + 1)
section MC
variable {K : pp_K} {c : pp_C} {σ : gg_S} {Q : Int32 → gg_S → Prop}
def ma_C (σ : gg_S) (K : pp_K) (c : pp_C) : Prop :=
  K.many ≤ 5 ∧ gg_g σ 0 12 = nI K.many ∧ (∀ r, r < 4 → ma_row σ r (c.L r) (c.b r)) ∧ (∀ p, p < K.many → ma_fo σ p (K.kd p) (K.num p) (c.ap p)) ∧ gg_g σ 0 7 = nI c.nt ∧ ma_tx σ K.f
/-- only scratch and the cells of S have changed -/
def ma_e1 (S : List Nat) (σ' σ : gg_S) : Prop := ∀ i k, (i = 0 → k ∈ ma_k0) → i ∉ S → gg_g σ' i k = gg_g σ i k
theorem ma_e1_rf {S : List Nat} {σ : gg_S} : ma_e1 S σ σ := fun _ _ _ _ => rfl
theorem ma_e1_tr {S : List Nat} {x y z : gg_S} (h1 : ma_e1 S x y) (h2 : ma_e1 S y z) : ma_e1 S x z := fun i k a b => (h1 i k a b).trans (h2 i k a b)
theorem ma_e1_e0 {S : List Nat} {x y : gg_S} (h : ma_e0 x y) : ma_e1 S x y := fun i k a _ => by
  by_cases h0 : i = 0
  · subst h0; exact h.2 k (a rfl)
  · exact h.1 i k h0
theorem ma_e1_s {S : List Nat} {σ : gg_S} {i k : Nat} {v : Int32} (h : i ∈ S) : ma_e1 S (gg_s σ i k v) σ := fun j q _ b => by
  rw [gg_gs, if_neg (fun z => b (by rw [z.1]; exact h))]
theorem ma_e1_mo {S T : List Nat} {x y : gg_S} (h : ma_e1 S x y) (hs : ∀ i, i ∈ S → i ∈ T) : ma_e1 T x y := fun i k a b => h i k a (fun z => b (hs i z))
theorem ma_tx_e1 {S : List Nat} {x y : gg_S} {f : Nat → pp_F} (h : ma_tx x f) (e : ma_e1 S y x) (h1 : 0 ∉ S) (h2 : 1 ∉ S) (h3 : 2 ∉ S) : ma_tx y f := by
  obtain ⟨t, t1, t2, n, n1, n2, n3, n4⟩ := h
  refine ⟨t, t1, by rw [e 0 4 (fun _ => by decide) h1]; exact t2, n, n1, by rw [e 2 t (fun z => absurd z (by decide)) h3]; exact n2, ?_⟩
  rw [show (fun i => gg_g y 1 (160 * t + i)) = (fun i => gg_g x 1 (160 * t + i)) from funext fun i => e 1 _ (fun z => absurd z (by decide)) h2]
  exact ⟨n3, n4⟩
theorem ma_C_e1 {S : List Nat} {x y : gg_S} (h : ma_C x K c) (e : ma_e1 S y x) (hs : ∀ i, i ∈ [0, 1, 2, 4, 5, 6, 7] → i ∉ S) : ma_C y K c := by
  obtain ⟨h1, h2, h3, h4, h5, h6⟩ := h
  have g : ∀ i, i ∈ [0, 1, 2, 4, 5, 6, 7] → i ≠ 0 → ∀ k, gg_g y i k = gg_g x i k := fun i hi h0 k => e i k (fun z => absurd z h0) (hs i hi)
  refine ⟨h1, by rw [e 0 12 (fun _ => by decide) (hs 0 (by decide))]; exact h2, fun r hr => ?_, fun p hp => ?_, by rw [e 0 7 (fun _ => by decide) (hs 0 (by decide))]; exact h5, ma_tx_e1 h6 e (hs 0 (by decide)) (hs 1 (by decide)) (hs 2 (by decide))⟩
  · obtain ⟨r1, r2, r3⟩ := h3 r hr
    exact ⟨by rw [g 5 (by decide) (by decide)]; exact r1, by rw [g 4 (by decide) (by decide)]; exact r2, r3⟩
  · obtain ⟨r1, r2, r3, r4⟩ := h4 p hp
    exact ⟨by rw [g 6 (by decide) (by decide)]; exact r1, by rw [g 7 (by decide) (by decide)]; exact r2, by rw [g 7 (by decide) (by decide)]; exact r3, r4⟩
/-- gleaning and nights: rows, aprons, the night and scratch may have changed -/
def ma_fc (σ' σ : gg_S) : Prop := ∀ i k, (i = 0 → k ∈ [3, 4, 6, 12, 35, 36, 40, 41, 42]) → i ∉ [8, 9, 10, 12, 13] → ¬ ((i = 4 ∨ i = 5) ∧ k < 5) → ¬ (i = 7 ∧ k % 2 = 1 ∧ k < 10) → gg_g σ' i k = gg_g σ i k
theorem ma_fc_rf {σ : gg_S} : ma_fc σ σ := fun _ _ _ _ _ _ => rfl
theorem ma_fc_tr {x y z : gg_S} (h1 : ma_fc x y) (h2 : ma_fc y z) : ma_fc x z := fun i k a b d e => (h1 i k a b d e).trans (h2 i k a b d e)
theorem ma_k0_of : ∀ k, k ∈ [3, 4, 6, 12, 35, 36, 40, 41, 42] → k ∈ ma_k0 := by decide
theorem ma_fc_e1 {x y : gg_S} (h : ma_e1 [8, 9, 10, 12, 13] x y) : ma_fc x y := fun i k a b _ _ => h i k (fun z => ma_k0_of k (a z)) b
theorem ma_fc_fg {r p : Nat} {x y : gg_S} (hr : r < 5) (hp : p < 5) (h : ma_fg r p x y) : ma_fc x y := fun i k a b d e =>
  h i k (fun z => ma_k0_of k (a z)) (fun z => b (by rw [z]; decide)) (fun z => b (by rw [z]; decide)) (fun z => b (by rw [z]; decide)) (fun z => d ⟨Or.inl z.1, by omega⟩) (fun z => d ⟨Or.inr z.1, by omega⟩) (fun z => e ⟨z.1, by omega, by omega⟩)
theorem ms_gleansC {p r : Nat} (hc : ma_C σ K c) (hp : p < K.many) (hr : r < 4) (hq : ∀ σ', ma_C σ' K (pp_gc K c p r) → ma_took σ' (pp_gr K c p r).2 → ma_fc σ' σ → Q (Int32.ofInt (pp_gr K c p r).1.2.2.2) σ') : mmw_gleans (nI p) (nI r) σ Q := by
  obtain ⟨h1, h2, h3, h4, h5, h6⟩ := hc
  refine ms_gleans (by omega) (by omega) (h3 r hr) (h4 p hp) h6 (fun σ' g1 g2 g3 g4 => ?_)
  rw [h5] at g1 g2 g3 ⊢
  refine hq σ' ⟨h1, ?_, fun q hq' => ?_, fun q hq' => ?_, ?_, ma_tx_fg h6 g4⟩ g3 (ma_fc_fg (by omega) (by omega) g4)
  · rw [g4 0 12 (fun _ => by decide) (by decide) (by decide) (by decide) (by omega) (by omega) (by omega)]
    exact h2
  · by_cases e : q = r
    · subst e
      show ma_row σ' q (pp_up c.L q _ q) (pp_up c.b q _ q)
      unfold pp_up
      rw [if_pos rfl, if_pos rfl]
      exact g1
    · show ma_row σ' q (pp_up c.L r _ q) (pp_up c.b r _ q)
      unfold pp_up
      rw [if_neg e, if_neg e]
      obtain ⟨r1, r2, r3⟩ := h3 q hq'
      exact ⟨by rw [g4 5 q (fun z => absurd z (by decide)) (by decide) (by decide) (by decide) (by omega) (by omega) (by omega)]; exact r1, by rw [g4 4 q (fun z => absurd z (by decide)) (by decide) (by decide) (by decide) (by omega) (by omega) (by omega)]; exact r2, r3⟩
  · by_cases e : q = p
    · subst e
      show ma_fo σ' q _ _ (pp_up c.ap q _ q)
      unfold pp_up
      rw [if_pos rfl]
      exact g2
    · show ma_fo σ' q _ _ (pp_up c.ap p _ q)
      unfold pp_up
      rw [if_neg e]
      obtain ⟨r1, r2, r3, r4⟩ := h4 q hq'
      exact ⟨by rw [g4 6 q (fun z => absurd z (by decide)) (by decide) (by decide) (by decide) (by omega) (by omega) (by omega)]; exact r1, by rw [g4 7 _ (fun z => absurd z (by decide)) (by decide) (by decide) (by decide) (by omega) (by omega) (by omega)]; exact r2, by rw [g4 7 _ (fun z => absurd z (by decide)) (by decide) (by decide) (by decide) (by omega) (by omega) (by omega)]; exact r3, r4⟩
  · rw [g4 0 7 (fun _ => by decide) (by decide) (by decide) (by decide) (by omega) (by omega) (by omega)]
    exact h5
theorem ms_keepsOf {p : Nat} (hc : ma_C σ K c) (hp : p < K.many) (hq : ∀ σ', ma_e0 σ' σ → Q (nI (pp_keep K c p)) σ') : mmw_keepsOf (nI p) σ Q := by
  obtain ⟨h1, h2, h3, h4, h5, h6⟩ := hc
  obtain ⟨o1, o2, o3, o4, o5, o6⟩ := h4 p hp
  unfold mmw_keepsOf
  rw [ml_21, ml_2, ml_cl (by omega), ml_cl (by omega), ml_cl (by omega), o1, o2, o3]
  have e2 : nI (K.kd p) = 2 ↔ K.kd p = 2 := nI_eq (b := 2) (by omega) (by decide)
  have e3 : nI (K.kd p) = 3 ↔ K.kd p = 3 := nI_eq (b := 3) (by omega) (by decide)
  have e4 : nI (K.kd p) = 4 ↔ K.kd p = 4 := nI_eq (b := 4) (by omega) (by decide)
  have e5 : nI (K.kd p) = 5 ↔ K.kd p = 5 := nI_eq (b := 5) (by omega) (by decide)
  rw [e2, e3, e4, e5]
  unfold pp_keep at hq
  unfold mmw_keepsOf_38
  rw [e2]
  refine ⟨ml_in (by omega) (by decide), ml_in (by omega) (by decide), ml_in (by omega) (by decide), fun h => ⟨fun _ => ?_, fun z => absurd h z⟩, fun n2 => ⟨fun h => ⟨fun z => absurd z n2, fun _ => ?_⟩, fun n4 => ⟨fun h => ?_, fun n5 => ?_⟩⟩⟩
  · have := hq σ ma_e0_rf
    rw [if_pos h] at this
    exact this
  · have := hq σ ma_e0_rf
    rw [if_neg n2, if_pos h] at this
    rw [ml_div2 (by omega)]
    exact this
  · have := hq σ ma_e0_rf
    rw [if_neg n2, if_neg n4, if_pos h] at this
    exact this
  · rw [if_neg n2, if_neg n4, if_neg n5] at hq
    refine ms_says (w := 1) (by decide) h6 (fun σ' he => ?_)
    rw [h5, show ma_hi 1 = 100 from rfl]
    have hq' := hq σ' he
    generalize hv : ma_say K.f 1 100 (ma_env 0 0 (nI (K.num p)) (nI c.nt) (nI (c.ap p)) 0) = v at hq'
    have hv9 : v ≤ 100 := by rw [← hv]; exact ml_cl_r
    have hm : c.ap p * v ≤ 999 * 100 := Nat.mul_le_mul o6 hv9
    have hd : c.ap p * v / 100 ≤ 999 := by omega
    rw [pk_mul, show nI (c.ap p * v) / 100 = nI (c.ap p * v / 100) from pk_div (a := c.ap p * v) (d := 100) (by omega) (by decide) (by decide)]
    generalize c.ap p * v / 100 = x at hd hq'
    unfold mmw_keepsOf_93
    refine ⟨fun h => ms_within (hi := 999) (by decide) ?_, fun h => ms_within (hi := 999) (by decide) ?_⟩
    · rw [if_pos h] at hq'
      rw [ml_iN x, ml_iN (K.num p), ← Int32.ofInt_sub, ml_iT (by omega) (by omega)]
      exact hq'
    · rw [if_neg h, Int.sub_zero] at hq'
      rw [nI_toInt (by omega)]
      exact hq'
theorem ms_shakenOf {r : Nat} (hc : ma_C σ K c) (hr : r < 4) (hq : ∀ σ', ma_e0 σ' σ → Q (nI (pp_shake K c r)) σ') : mmw_shakenOf (nI r) σ Q := by
  obtain ⟨h1, h2, h3, h4, h5, h6⟩ := hc
  unfold mmw_shakenOf
  refine ms_leftOf (by omega) (h3 r hr) (ms_says (w := 2) (by decide) h6 (fun σ' he => ?_))
  rw [h5]
  exact hq σ' he
theorem ms_passes_2 {Q : gg_S → Prop} {σ0 : gg_S} (h0 : ma_C σ0 K c) (hq : ∀ σ', ma_e1 [12, 13] σ' σ0 → (∀ j, j < K.many → gg_g σ' 12 j = nI (pp_keep K c j)) → ∃ k9, mmw_passes_29 Q k9 0 σ') :
    ∀ (d k : Nat) (σ : gg_S), k + d = K.many → ma_e1 [12, 13] σ σ0 → (∀ j, j < k → gg_g σ 12 j = nI (pp_keep K c j)) → mmw_passes_2 Q (d + 1) (nI k) σ := by
  intro d
  induction d with
  | zero =>
    intro k σ h1 h2 h3
    have hC := ma_C_e1 h0 h2 (by decide)
    unfold mmw_passes_2
    rw [hC.2.1, nI_leI (by have := h0.1; omega) (by have := h0.1; omega)]
    exact ⟨fun _ => hq σ h2 (fun j hj => h3 j (by omega)), fun z => absurd (show K.many ≤ k by omega) z⟩
  | succ d ih =>
    intro k σ h1 h2 h3
    have h5 := h0.1
    have hC := ma_C_e1 h0 h2 (by decide)
    unfold mmw_passes_2
    rw [hC.2.1, nI_leI (by omega) (by omega)]
    refine ⟨fun z => by omega, fun _ => ms_keepsOf hC (by omega) (fun σ' he => ⟨ml_in (by omega) (by decide), ?_⟩)⟩
    rintro _ rfl
    rw [ml_cl (by omega), nI_1]
    refine ih (k + 1) _ (by omega) (ma_e1_tr (ma_e1_s (by decide)) (ma_e1_tr (ma_e1_e0 he) h2)) (fun j hj => ?_)
    rw [gg_gs]
    by_cases e : j = k
    · rw [if_pos ⟨rfl, e⟩, e]
    · rw [if_neg (fun z => e z.2), he.1 12 j (by decide)]
      exact h3 j (by omega)
theorem ms_passes_29 {Q : gg_S → Prop} {σ0 : gg_S} (h0 : ma_C σ0 K c) (hq : ∀ σ', ma_e1 [13] σ' σ0 → (∀ j, j < 4 → gg_g σ' 13 j = nI (pp_shake K c j)) → ∃ k9, mmw_passes_53 Q k9 0 σ') :
    ∀ (d k : Nat) (σ : gg_S), k + d = 4 → ma_e1 [13] σ σ0 → (∀ j, j < k → gg_g σ 13 j = nI (pp_shake K c j)) → mmw_passes_29 Q (d + 1) (nI k) σ := by
  intro d
  induction d with
  | zero =>
    intro k σ h1 h2 h3
    unfold mmw_passes_29
    rw [show (4 : Int32) = nI 4 from rfl, nI_leI (by omega) (by omega)]
    exact ⟨fun _ => hq σ h2 (fun j hj => h3 j (by omega)), fun z => absurd (show 4 ≤ k by omega) z⟩
  | succ d ih =>
    intro k σ h1 h2 h3
    have hC := ma_C_e1 h0 h2 (by decide)
    unfold mmw_passes_29
    rw [show (4 : Int32) = nI 4 from rfl, nI_leI (by omega) (by omega)]
    refine ⟨fun z => by omega, fun _ => ms_shakenOf hC (by omega) (fun σ' he => ⟨ml_in (by omega) (by decide), ?_⟩)⟩
    rintro _ rfl
    rw [ml_cl (by omega), nI_1]
    refine ih (k + 1) _ (by omega) (ma_e1_tr (ma_e1_s (by decide)) (ma_e1_tr (ma_e1_e0 he) h2)) (fun j hj => ?_)
    rw [gg_gs]
    by_cases e : j = k
    · rw [if_pos ⟨rfl, e⟩, e]
    · rw [if_neg (fun z => e z.2), he.1 13 j (by decide)]
      exact h3 j (by omega)
theorem ms_passes_53 {Q : gg_S → Prop} {σ0 : gg_S} {m : Nat} {f : Nat → Nat} (hm5 : m ≤ 5) (hm : gg_g σ0 0 12 = nI m) (hk : ∀ j, j < m → gg_g σ0 12 j = nI (f j))
    (hq : ∀ σ', (∀ i k, ¬ (i = 7 ∧ k % 2 = 1 ∧ k < 2 * m) → gg_g σ' i k = gg_g σ0 i k) → (∀ j, j < m → gg_g σ' 7 (2 * j + 1) = nI (f j)) → ∃ k9, mmw_passes_85 Q k9 0 σ') :
    ∀ (d k : Nat) (σ : gg_S), k + d = m → (∀ i q, ¬ (i = 7 ∧ q % 2 = 1 ∧ q < 2 * k) → gg_g σ i q = gg_g σ0 i q) → (∀ j, j < k → gg_g σ 7 (2 * j + 1) = nI (f j)) → mmw_passes_53 Q (d + 1) (nI k) σ := by
  intro d
  induction d with
  | zero =>
    intro k σ h1 h2 h3
    unfold mmw_passes_53
    rw [h2 0 12 (by omega), hm, nI_leI (by omega) (by omega)]
    exact ⟨fun _ => hq σ (fun i q hn => h2 i q (fun z => hn ⟨z.1, z.2.1, by omega⟩)) (fun j hj => h3 j (by omega)), fun z => absurd (show m ≤ k by omega) z⟩
  | succ d ih =>
    intro k σ h1 h2 h3
    unfold mmw_passes_53
    rw [h2 0 12 (by omega), hm, nI_leI (by omega) (by omega)]
    refine ⟨fun z => by omega, fun _ => ⟨ml_in (by omega) (by decide), by rw [ml_21]; exact ml_in (by omega) (by decide), ?_⟩⟩
    rintro _ rfl
    rw [ml_21, ml_cl (by omega), ml_cl (by omega), nI_1]
    refine ih (k + 1) _ (by omega) (fun i q hn => ?_) (fun j hj => ?_)
    · rw [gg_gs, if_neg (fun z => hn ⟨z.1, by omega, by omega⟩)]
      exact h2 i q (fun z => hn ⟨z.1, z.2.1, by omega⟩)
    · rw [gg_gs]
      by_cases e : j = k
      · rw [if_pos ⟨rfl, by omega⟩, e, h2 12 k (by omega)]
        exact hk k (by omega)
      · rw [if_neg (fun z => e (by omega))]
        exact h3 j (by omega)
theorem ms_passes_85 {Q : gg_S → Prop} {σ0 : gg_S} {L s : Nat → Nat} (hL : ∀ r, r < 4 → gg_g σ0 5 r = nI (L r) ∧ L r ≤ 24) (hs : ∀ r, r < 4 → gg_g σ0 13 r = nI (s r) ∧ s r ≤ 9)
    (hq : ∀ σ', (∀ i k, ¬ (i = 5 ∧ k < 4) → ¬ (i = 0 ∧ k = 7) → gg_g σ' i k = gg_g σ0 i k) → (∀ r, r < 4 → gg_g σ' 5 r = nI (pp_cl 0 24 ((L r + s r : Nat) : Int)).toNat) → gg_g σ' 0 7 = gg_g σ0 0 7 + 1 → Q σ') :
    ∀ (d k : Nat) (σ : gg_S), k + d = 4 → (∀ i q, ¬ (i = 5 ∧ q < k) → gg_g σ i q = gg_g σ0 i q) → (∀ r, r < k → gg_g σ 5 r = nI (pp_cl 0 24 ((L r + s r : Nat) : Int)).toNat) → mmw_passes_85 Q (d + 1) (nI k) σ := by
  intro d
  induction d with
  | zero =>
    intro k σ h1 h2 h3
    unfold mmw_passes_85
    rw [show (4 : Int32) = nI 4 from rfl, nI_leI (by omega) (by omega)]
    refine ⟨fun _ => ?_, fun z => absurd (show 4 ≤ k by omega) z⟩
    rintro _ rfl
    refine hq _ (fun i q n1 n2 => ?_) (fun r hr => ?_) ?_
    · rw [gg_gs, if_neg n2]
      exact h2 i q (fun z => n1 ⟨z.1, by omega⟩)
    · rw [gg_gs, if_neg (fun z => absurd z.1 (by decide))]
      exact h3 r (by omega)
    · rw [gg_me, h2 0 7 (by omega)]
  | succ d ih =>
    intro k σ h1 h2 h3
    have hk : k < 4 := by omega
    unfold mmw_passes_85
    rw [show (4 : Int32) = nI 4 from rfl, nI_leI (by omega) (by omega)]
    refine ⟨fun z => by omega, fun _ => ⟨ml_in (by omega) (by decide), ml_in (by omega) (by decide), ?_⟩⟩
    obtain ⟨l1, l2⟩ := hL k hk
    obtain ⟨s1, s2⟩ := hs k hk
    rw [ml_cl (by omega), h2 5 k (by omega), h2 13 k (by omega), l1, s1, nI_add]
    refine ms_within (hi := 24) (by decide) ⟨ml_in (by omega) (by decide), ?_⟩
    rintro _ rfl
    rw [nI_1, nI_toInt (by omega)]
    refine ih (k + 1) _ (by omega) (fun i q hn => ?_) (fun r hr => ?_)
    · rw [gg_gs, if_neg (fun z => hn ⟨z.1, by omega⟩)]
      exact h2 i q (fun z => hn ⟨z.1, by omega⟩)
    · rw [gg_gs]
      by_cases e : r = k
      · rw [if_pos ⟨rfl, e⟩, e]
        rfl
      · rw [if_neg (fun z => e z.2)]
        exact h3 r (by omega)
theorem pp_keep_le {p : Nat} (h : c.ap p ≤ 999) : pp_keep K c p ≤ 999 := by
  unfold pp_keep
  split
  · exact h
  · split
    · omega
    · split
      · omega
      · exact ml_cl_r
theorem ms_passes {Q : gg_S → Prop} (hc : ma_C σ K c) (hq : ∀ σ', ma_C σ' K (pp_pass K c) → ma_fc σ' σ → Q σ') : mmw_passes σ Q := by
  have hc' := hc
  obtain ⟨h1, h2, h3, h4, h5, h6⟩ := hc
  unfold mmw_passes
  refine ⟨K.many + 1, ms_passes_2 hc' (fun σ1 e1 k1 => ⟨5, ms_passes_29 (ma_C_e1 hc' e1 (by decide)) (fun σ2 e2 k2 => ?_) 4 0 σ1 (by decide) ma_e1_rf (fun j hj => by omega)⟩) K.many 0 σ (by omega) ma_e1_rf (fun j hj => by omega)⟩
  have e20 : ma_e1 [12, 13] σ2 σ := ma_e1_tr (ma_e1_mo e2 (by decide)) e1
  have hc2 := ma_C_e1 hc' e20 (by decide)
  have k1' : ∀ j, j < K.many → gg_g σ2 12 j = nI (pp_keep K c j) := fun j hj => by
    rw [e2 12 j (fun z => absurd z (by decide)) (by decide)]
    exact k1 j hj
  refine ⟨K.many + 1, ms_passes_53 h1 hc2.2.1 k1' (fun σ3 f3 k3 => ?_) K.many 0 σ2 (by omega) (fun i q _ => rfl) (fun j hj => by omega)⟩
  refine ⟨5, ms_passes_85 (L := c.L) (s := pp_shake K c) (fun r hr => ?_) (fun r hr => ?_) (fun σ4 f4 k4 n4 => ?_) 4 0 σ3 (by decide) (fun i q _ => rfl) (fun j hj => by omega)⟩
  · rw [f3 5 r (by omega)]
    exact ⟨(hc2.2.2.1 r hr).1, (hc2.2.2.1 r hr).2.2.1⟩
  · rw [f3 13 r (by omega)]
    exact ⟨k2 r hr, ml_cl_r⟩
  · have fr : ∀ i k, ¬ (i = 5 ∧ k < 4) → ¬ (i = 0 ∧ k = 7) → ¬ (i = 7 ∧ k % 2 = 1 ∧ k < 2 * K.many) → gg_g σ4 i k = gg_g σ2 i k := fun i k a b d => by rw [f4 i k a b, f3 i k d]
    refine hq σ4 ⟨h1, ?_, fun r hr => ?_, fun p hp => ?_, ?_, ?_⟩ (fun i k a b d e => ?_)
    · rw [fr 0 12 (by omega) (by omega) (by omega)]
      exact hc2.2.1
    · obtain ⟨r1, r2, r3, r4⟩ := h3 r hr
      show ma_row σ4 r (if r < 4 then (pp_cl 0 24 ((c.L r + pp_shake K c r : Nat) : Int)).toNat else c.L r) (c.b r)
      rw [if_pos hr]
      refine ⟨k4 r hr, by rw [fr 4 r (by omega) (by omega) (by omega)]; exact (hc2.2.2.1 r hr).2.1, ml_cl_r, Nat.lt_of_lt_of_le r4 (Nat.pow_le_pow_right (by decide) ?_)⟩
      unfold pp_cl
      split
      · omega
      · split <;> omega
    · obtain ⟨r1, r2, r3, r4, r5, r6⟩ := hc2.2.2.2.1 p hp
      show ma_fo σ4 p _ _ (if p < K.many then pp_keep K c p else c.ap p)
      rw [if_pos hp]
      refine ⟨by rw [fr 6 p (by omega) (by omega) (by omega)]; exact r1, by rw [fr 7 _ (by omega) (by omega) (by omega)]; exact r2, ?_, r4, r5, pp_keep_le r6⟩
      rw [f4 7 _ (by omega) (by omega)]
      exact k3 p hp
    · rw [n4, f3 0 7 (by omega), hc2.2.2.2.2.1]
      exact nI_1 c.nt
    · obtain ⟨t, t1, t2, n, n1, n2, n3, n5⟩ := hc2.2.2.2.2.2
      refine ⟨t, t1, by rw [fr 0 4 (by omega) (by omega) (by omega)]; exact t2, n, n1, by rw [fr 2 t (by omega) (by omega) (by omega)]; exact n2, ?_⟩
      rw [show (fun i => gg_g σ4 1 (160 * t + i)) = (fun i => gg_g σ2 1 (160 * t + i)) from funext fun i => fr 1 _ (by omega) (by omega) (by omega)]
      exact ⟨n3, n5⟩
    · rw [fr i k (fun z => d ⟨Or.inr z.1, by omega⟩) (fun z => by have := a z.1; rw [z.2] at this; exact absurd this (by decide)) (fun z => e ⟨z.1, z.2.1, by omega⟩)]
      exact e20 i k (fun z => ma_k0_of k (a z)) (fun z => b ((show ∀ i, i ∈ [12, 13] → i ∈ [8, 9, 10, 12, 13] by decide) i z))
end MC
