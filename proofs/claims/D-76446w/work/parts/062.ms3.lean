/-! THE REFERENCE: what a gleaner takes; a row is gleaned -/
theorem ml_iN (n : Nat) : nI n = Int32.ofInt n := Int32.ofInt_eq_ofNat.symm
theorem ml_iT {x : Int} (h1 : -2 ^ 31 ≤ x) (h2 : x < 2 ^ 31) : (Int32.ofInt x).toInt = x := Int32.toInt_ofInt_of_le h1 h2
theorem ml_iNat {x : Int} (h : 0 ≤ x) : Int32.ofInt x = nI x.toNat := by rw [ml_iN, Int.toNat_of_nonneg h]
theorem ml_iLe {x y : Int} (h1 : -2 ^ 31 ≤ x) (h2 : x < 2 ^ 31) (h3 : -2 ^ 31 ≤ y) (h4 : y < 2 ^ 31) : Int32.ofInt x ≤ Int32.ofInt y ↔ x ≤ y := by rw [Int32.le_iff_toInt_le, ml_iT h1 h2, ml_iT h3 h4]
theorem ml_iLt {x y : Int} (h1 : -2 ^ 31 ≤ x) (h2 : x < 2 ^ 31) (h3 : -2 ^ 31 ≤ y) (h4 : y < 2 ^ 31) : Int32.ofInt x < Int32.ofInt y ↔ x < y := by rw [Int32.lt_iff_toInt_lt, ml_iT h1 h2, ml_iT h3 h4]
theorem ml_or (a b : Nat) : nI a ||| nI b = nI (a ||| b) := by
  apply Int32.toBitVec_inj.1
  show BitVec.ofNat 32 a ||| BitVec.ofNat 32 b = BitVec.ofNat 32 (a ||| b)
  apply BitVec.eq_of_getLsbD_eq
  intro i hi
  simp [hi]
theorem ml_shl {b k : Nat} (hk : k < 32) (h : b * 2 ^ k < 2 ^ 32) : nI b <<< (nI k &&& 31) = nI (b * 2 ^ k) := pk_shlN (nI k &&& 31) k (s_l k hk) h
theorem ml_shr {b k : Nat} (hk : k < 32) (h : b < 2 ^ 31) : nI b >>> (nI k &&& 31) = nI (b / 2 ^ k) := pk_shrN h (nI k &&& 31) k (s_l k hk)
theorem ml_mask {b k : Nat} (hk : k < 31) (h : b < 2 ^ 31) : nI b &&& ((1 <<< (nI k &&& 31)) - 1) = nI (b % 2 ^ k) := by
  have h1 : (2 : Nat) ^ k < 2 ^ 31 := Nat.pow_lt_pow_right (by decide) hk
  have h2 := Nat.two_pow_pos k
  rw [show (1 : Int32) = nI 1 from rfl, ml_shl (by omega) (by omega), Nat.one_mul, pk_sub (by omega), nx_and, Nat.and_two_pow_sub_one_eq_mod]
theorem ml_orS {a b k : Nat} (h : a < 2 ^ k) : nI a ||| nI (b * 2 ^ k) = nI (a + b * 2 ^ k) := by
  rw [ml_or, Nat.or_comm, Nat.mul_comm b, ← Nat.two_pow_add_eq_or_of_lt h, Nat.add_comm]
section MS
variable {σ : gg_S}
/-- only the scalars that are no part of the state have changed -/
def ma_k0 : List Nat := [3, 4, 6, 7, 12, 35, 36, 40, 41, 42]
abbrev ma_e0 (σ' σ : gg_S) : Prop := (∀ i k, i ≠ 0 → gg_g σ' i k = gg_g σ i k) ∧ ∀ k, k ∈ ma_k0 → gg_g σ' 0 k = gg_g σ 0 k
theorem ma_e0_rf {σ : gg_S} : ma_e0 σ σ := ⟨fun _ _ _ => rfl, fun _ _ => rfl⟩
theorem ma_e0_tr {a b c : gg_S} (h1 : ma_e0 a b) (h2 : ma_e0 b c) : ma_e0 a c := ⟨fun i k h => (h1.1 i k h).trans (h2.1 i k h), fun k h => (h1.2 k h).trans (h2.2 k h)⟩
theorem ma_e0_s {σ : gg_S} {k : Nat} {v : Int32} (h : k ∉ ma_k0) : ma_e0 (gg_s σ 0 k v) σ := by
  refine ⟨fun i q hi => ?_, fun q hq => ?_⟩
  · rw [gg_gs, if_neg (fun t => hi t.1)]
  · rw [gg_gs, if_neg (fun t => h (by rw [← t.2]; exact hq))]
theorem ma_row_e0 {σ σ' : gg_S} {r L b : Nat} (h : ma_row σ r L b) (f : ma_e0 σ' σ) : ma_row σ' r L b :=
  ⟨by rw [f.1 5 r (by decide)]; exact h.1, by rw [f.1 4 r (by decide)]; exact h.2.1, h.2.2⟩
/-- text t stands there and says f -/
abbrev ma_text (σ : gg_S) (t : Nat) (f : Nat → pp_F) : Prop := ∃ n, n ≤ 160 ∧ gg_g σ 2 t = nI n ∧ pp_by (fun i => gg_g σ 1 (160 * t + i)) n ∧ pp_tx (fun i => gg_g σ 1 (160 * t + i)) n = .inr f
theorem ma_text_e0 {σ σ' : gg_S} {t : Nat} {f : Nat → pp_F} (h : ma_text σ t f) (g : ma_e0 σ' σ) : ma_text σ' t f := by
  obtain ⟨n, h1, h2, h3, h4⟩ := h
  refine ⟨n, h1, by rw [g.1 2 t (by decide)]; exact h2, ?_⟩
  rw [show (fun i => gg_g σ' 1 (160 * t + i)) = (fun i => gg_g σ 1 (160 * t + i)) from funext fun i => g.1 1 _ (by decide)]
  exact ⟨h3, h4⟩
variable {Q : Int32 → gg_S → Prop}
theorem ms_within {x : Int32} {hi : Nat} (hh : hi < 2 ^ 31) (hq : Q (nI (pp_cl 0 hi x.toInt).toNat) σ) : mmw_within x 0 (nI hi) σ Q := by
  unfold mmw_within
  have h0 : (0 : Int32).toInt = 0 := by decide
  rw [Int32.le_iff_toInt_le, Int32.le_iff_toInt_le, h0, nI_toInt hh]
  unfold pp_cl at hq
  refine ⟨fun h => ⟨fun h' => ?_, fun h' => ?_⟩, fun h => ?_⟩
  · rw [if_neg (by omega), if_neg (by omega), ← ml_iNat h, Int32.ofInt_toInt] at hq
    exact hq
  · rw [if_neg (by omega), if_pos (by omega), Int.toNat_natCast] at hq
    exact hq
  · rw [if_pos (by omega)] at hq
    exact hq
theorem ml_cl_r {hi : Nat} {x : Int} : (pp_cl 0 hi x).toNat ≤ hi := by
  unfold pp_cl
  split
  · simp
  · split <;> omega
/-- what the text at hand says, held within -/
def ma_say (f : Nat → pp_F) (w hi : Nat) (env : Nat → Int32) : Nat := (pp_cl 0 hi (f w env).toInt).toNat
theorem ms_takesOf_127 {g : Nat} {x : Int32} (hg : g ≤ 24) (hq : Q (nI (pp_cl 0 g x.toInt).toNat) σ) : mmw_takesOf_127 Q (nI g) x σ := ms_within (by omega) hq
/-- the text at hand says f -/
abbrev ma_tx (σ : gg_S) (f : Nat → pp_F) : Prop := ∃ t, t < 6 ∧ gg_g σ 0 4 = nI t ∧ ma_text σ t f
theorem ma_tx_e0 {σ σ' : gg_S} {f : Nat → pp_F} (h : ma_tx σ f) (g : ma_e0 σ' σ) : ma_tx σ' f := by
  obtain ⟨t, h1, h2, h3⟩ := h
  exact ⟨t, h1, by rw [g.2 4 (by decide)]; exact h2, ma_text_e0 h3 g⟩
def ma_hi (w : Nat) : Nat := if w = 0 then 99 else if w = 1 then 100 else 9
/-- what a text's part says -/
theorem ma_e0_mp {l : List Nat} {σ' σ : gg_S} (h : mp_e l σ' σ) (hl : ∀ k, k ∈ ma_k0 → k ∉ l) : ma_e0 σ' σ := ⟨h.1, fun k hk => h.2 k (hl k hk)⟩
theorem ms_says {f : Nat → pp_F} {w : Nat} {a2 a3 a4 a5 a6 : Int32} (hw : w < 3) (hx : ma_tx σ f)
    (hq : ∀ σ', ma_e0 σ' σ → Q (nI (ma_say f w (ma_hi w) (ma_env a2 a3 a4 (gg_g σ 0 7) a5 a6))) σ') : mmw_says (nI w) a2 a3 a4 a5 a6 σ Q := by
  unfold mmw_says
  rintro _ rfl _ rfl _ rfl _ rfl _ rfl _ rfl
  have he : ma_e0 (gg_s (gg_s (gg_s (gg_s (gg_s (gg_s σ 0 13 a2) 0 14 a3) 0 15 a4) 0 16 (gg_g (gg_s (gg_s (gg_s σ 0 13 a2) 0 14 a3) 0 15 a4) 0 7)) 0 17 a5) 0 18 a6) σ :=
    ma_e0_tr (ma_e0_s (by decide)) (ma_e0_tr (ma_e0_s (by decide)) (ma_e0_tr (ma_e0_s (by decide)) (ma_e0_tr (ma_e0_s (by decide)) (ma_e0_tr (ma_e0_s (by decide)) (ma_e0_s (by decide))))))
  have hen : mp_env (gg_s (gg_s (gg_s (gg_s (gg_s (gg_s σ 0 13 a2) 0 14 a3) 0 15 a4) 0 16 (gg_g (gg_s (gg_s (gg_s σ 0 13 a2) 0 14 a3) 0 15 a4) 0 7)) 0 17 a5) 0 18 a6) = ma_env a2 a3 a4 (gg_g σ 0 7) a5 a6 := by
    unfold mp_env
    simp only [gg_gs]
    rfl
  revert he hen
  generalize gg_s (gg_s (gg_s (gg_s (gg_s (gg_s σ 0 13 a2) 0 14 a3) 0 15 a4) 0 16 (gg_g (gg_s (gg_s (gg_s σ 0 13 a2) 0 14 a3) 0 15 a4) 0 7)) 0 17 a5) 0 18 a6 = τ
  intro he hen
  obtain ⟨t, t1, t2, n, n1, n2, n3, n4⟩ := ma_tx_e0 hx he
  rw [t2]
  refine ms_read hw t1 n1 n2 (fun _ => rfl) n3 (fun v σ' e hr => ?_)
  rw [n4] at hr
  obtain ⟨_, hv⟩ := hr
  rw [hen] at hv
  have hq' := hq σ' (ma_e0_tr (ma_e0_mp e (by decide)) he)
  unfold ma_say at hq'
  rw [← hv] at hq'
  unfold mmw_says_67
  rw [show (0 : Int32) = nI 0 from rfl, show (1 : Int32) = nI 1 from rfl, nI_eq (by omega) (by decide), nI_eq (by omega) (by decide)]
  rcases (show w = 0 ∨ w = 1 ∨ w = 2 by omega) with rfl | rfl | rfl
  · exact ⟨fun _ => ms_within (hi := 99) (by decide) hq', fun z => absurd rfl z⟩
  · exact ⟨fun z => absurd z (by decide), fun _ => ⟨fun _ => ms_within (hi := 100) (by decide) hq', fun z => absurd rfl z⟩⟩
  · exact ⟨fun z => absurd z (by decide), fun _ => ⟨fun z => absurd z (by decide), fun _ => ms_within (hi := 9) (by decide) hq'⟩⟩
/-- gleaner p: kind, number, apron -/
abbrev ma_fo (σ : gg_S) (p kd num apr : Nat) : Prop := gg_g σ 6 p = nI kd ∧ gg_g σ 7 (2 * p) = nI num ∧ gg_g σ 7 (2 * p + 1) = nI apr ∧ kd ≤ 5 ∧ num ≤ 9 ∧ apr ≤ 999
theorem ma_fo_e0 {σ σ' : gg_S} {p kd num apr : Nat} (h : ma_fo σ p kd num apr) (g : ma_e0 σ' σ) : ma_fo σ' p kd num apr :=
  ⟨by rw [g.1 6 _ (by decide)]; exact h.1, by rw [g.1 7 _ (by decide)]; exact h.2.1, by rw [g.1 7 _ (by decide)]; exact h.2.2.1, h.2.2.2⟩
theorem ml_2 (p : Nat) : (2 : Int32) * nI p = nI (2 * p) := pk_mul 2 p
theorem ml_21 (p : Nat) : (2 : Int32) * nI p + 1 = nI (2 * p + 1) := by rw [ml_2]; exact nI_1 _
theorem ml_rem2 {g : Nat} (hg : g < 2 ^ 31) : nI g - nI g / 2 * 2 = nI (g % 2) := pk_rem (a := g) (d := 2) hg (by decide) (by decide)
theorem ml_div2 {g : Nat} (hg : g < 2 ^ 31) : nI g / 2 = nI (g / 2) := pk_div (a := g) (d := 2) hg (by decide) (by decide)
theorem ml_min (v g : Nat) : Int32.ofInt (min (v : Int) g) = nI (pp_cl 0 g (v : Int)).toNat := by
  have hv : (0 : Int) ≤ (v : Int) := Int.natCast_nonneg v
  have hg : (0 : Int) ≤ (g : Int) := Int.natCast_nonneg g
  rw [ml_iNat (by omega)]
  congr 1
  unfold pp_cl
  split
  · omega
  · split <;> omega
theorem ms_takesOf_76 {f : Nat → pp_F} {g kd num apr : Nat} {a3 a4 : Int32} (hs : ma_tx σ f) (hg : g ≤ 24) (hkd : kd ≤ 5) (h2 : kd ≠ 2) (h4 : kd ≠ 4) (h3 : ¬ (kd = 3 ∧ g = 1))
    (hq : ∀ σ', ma_e0 σ' σ → Q (Int32.ofInt (pp_tk kd num apr (ma_say f 0 99 (ma_env (nI g) a3 (nI num) (gg_g σ 0 7) (nI apr) a4)) g)) σ') : mmw_takesOf_76 Q (nI g) a3 a4 (nI kd) (nI num) (nI apr) σ := by
  unfold mmw_takesOf_76
  refine ms_says (w := 0) (by decide) hs (fun σ' he => ?_)
  have hq' := hq σ' he
  rw [show ma_hi 0 = 99 from rfl]
  generalize hv : ma_say f 0 99 (ma_env (nI g) a3 (nI num) (gg_g σ 0 7) (nI apr) a4) = v at hq'
  have hv9 : v ≤ 99 := by rw [← hv]; exact ml_cl_r
  unfold pp_tk at hq'
  rw [if_neg h2, if_neg h4, if_neg h3, ml_min] at hq'
  have hw : ∀ x : Nat, x < 2 ^ 31 → Q (nI (pp_cl 0 g (x : Int)).toNat) σ' → mmw_takesOf_127 Q (nI g) (nI x) σ' := fun x hx q => ms_takesOf_127 hg (by rw [nI_toInt hx]; exact q)
  have e1 : nI kd = 1 ↔ kd = 1 := nI_eq (b := 1) (by omega) (by decide)
  have e3 : nI kd = 3 ↔ kd = 3 := nI_eq (b := 3) (by omega) (by decide)
  have e5 : nI kd = 5 ↔ kd = 5 := nI_eq (b := 5) (by omega) (by decide)
  rw [e1, e3, e5, ml_div2 (by omega)]
  have h103 : kd = 1 ∨ kd = 3 → mmw_takesOf_103 Q (nI g) (nI v) σ' := by
    intro h
    rw [if_pos h] at hq'
    unfold mmw_takesOf_103
    rw [ml_rem2 (by omega), nI_add]
    exact hw _ (by omega) hq'
  refine ⟨fun h => h103 (Or.inl h), fun n1 => ⟨fun h => h103 (Or.inr h), fun n3 => ⟨fun h => ?_, fun n5 => ?_⟩⟩⟩
  · rw [if_neg (by omega), if_pos h] at hq'
    exact hw _ (by omega) hq'
  · rw [if_neg (by omega), if_neg n5] at hq'
    exact hw _ (by omega) hq'
theorem ms_takesOf {f : Nat → pp_F} {p g kd num apr : Nat} {a3 a4 : Int32} (hp : p < 5) (hs : ma_tx σ f) (hg : g ≤ 24) (ho : ma_fo σ p kd num apr)
    (hq : ∀ σ', ma_e0 σ' σ → Q (Int32.ofInt (pp_tk kd num apr (ma_say f 0 99 (ma_env (nI g) a3 (nI num) (gg_g σ 0 7) (nI apr) a4)) g)) σ') : mmw_takesOf (nI p) (nI g) a3 a4 σ Q := by
  obtain ⟨o1, o2, o3, o4, o5, o6⟩ := ho
  unfold mmw_takesOf
  rw [ml_21, ml_2, ml_cl (by omega), ml_cl (by omega), ml_cl (by omega), o1, o2, o3]
  have e2 : nI kd = 2 ↔ kd = 2 := nI_eq (b := 2) (by omega) (by decide)
  have e3 : nI kd = 3 ↔ kd = 3 := nI_eq (b := 3) (by omega) (by decide)
  have e4 : nI kd = 4 ↔ kd = 4 := nI_eq (b := 4) (by omega) (by decide)
  have eg : nI g = 1 ↔ g = 1 := nI_eq (b := 1) (by omega) (by decide)
  rw [e2, e3, e4, eg]
  refine ⟨ml_in hp (by decide), ml_in (by omega) (by decide), ml_in (by omega) (by decide), fun h => ?_, fun n2 => ⟨fun h => ?_, fun n4 => ⟨fun h => ⟨fun h1 => ?_, fun h1 => ?_⟩, fun n3 => ?_⟩⟩⟩
  · have := hq σ ma_e0_rf
    unfold pp_tk at this
    rw [if_pos h, ← ml_iN] at this
    unfold mmw_takesOf_42
    rw [e4]
    exact ⟨fun h4 => by omega, fun _ => this⟩
  · have := hq σ ma_e0_rf
    unfold pp_tk at this
    rw [if_neg n2, if_pos h] at this
    unfold mmw_takesOf_42
    rw [e4, nI_ltI (by omega) (by omega)]
    refine ⟨fun _ => ⟨fun h7 => ?_, fun h7 => ?_⟩, fun n4 => absurd h n4⟩
    · rw [if_neg (by omega), ← ml_iN] at this
      exact this
    · rw [if_pos (by omega), Int32.ofInt_neg, ← ml_iN] at this
      exact this
  · have := hq σ ma_e0_rf
    unfold pp_tk at this
    rw [if_neg n2, if_neg n4, if_pos ⟨h, h1⟩] at this
    exact this
  · exact ms_takesOf_76 hs hg o4 n2 n4 (fun z => h1 z.2) hq
  · exact ms_takesOf_76 hs hg o4 n2 n4 (fun z => n3 z.1) hq
theorem ml_cs_lt {b L p : Nat} {t : Int} (hp : p ≤ L) (hb : b < 2 ^ L) (ht : t ≤ (L : Int) - p) : (pp_cs b L p t).1 < 2 ^ (pp_cs b L p t).2 := by
  have key : ∀ k q : Nat, p + k ≤ L → (p ≤ q) → b % 2 ^ p + b / 2 ^ (p + k) * 2 ^ q < 2 ^ (q + (L - p - k)) := by
    intro k q hk hq
    have h1 : b % 2 ^ p < 2 ^ q := Nat.lt_of_lt_of_le (Nat.mod_lt _ (Nat.two_pow_pos p)) (Nat.pow_le_pow_right (by decide) hq)
    have h2 : b / 2 ^ (p + k) < 2 ^ (L - p - k) := by
      rw [Nat.div_lt_iff_lt_mul (Nat.two_pow_pos _), ← Nat.pow_add]
      rw [show L - p - k + (p + k) = L by omega]
      exact hb
    have h3 : (b / 2 ^ (p + k) + 1) * 2 ^ q ≤ 2 ^ (L - p - k) * 2 ^ q := Nat.mul_le_mul_right _ h2
    rw [show 2 ^ (q + (L - p - k)) = 2 ^ (L - p - k) * 2 ^ q by rw [Nat.pow_add, Nat.mul_comm]]
    rw [Nat.add_mul, Nat.one_mul] at h3
    omega
  unfold pp_cs
  split
  · have := key 0 (p + t.natAbs) (by omega) (by omega)
    rw [show p + t.natAbs + (L - p - 0) = L + t.natAbs by omega, Nat.add_zero] at this
    exact this
  · have := key t.natAbs p (by omega) (Nat.le_refl p)
    rw [show p + (L - p - t.natAbs) = L - t.natAbs by omega] at this
    exact this
theorem ms_closes {Q : gg_S → Prop} {r L b p : Nat} {t : Int} (hr : r < 5) (h : ma_row σ r L b) (hp : p ≤ L) (ht : t ≤ (L : Int) - p) (ht2 : -(24 - L : Int) ≤ t)
    (hq : Q (gg_s (gg_s σ 4 r (nI (pp_cs b L p t).1)) 5 r (nI (pp_cs b L p t).2))) : mmw_closes (nI r) (nI p) (Int32.ofInt t) σ Q := by
  obtain ⟨h1, h2, h3, h4⟩ := h
  have h5 := ml_24 h3 h4
  have hlt := ml_cs_lt hp h4 ht
  have key : ∀ (x : Int32), x = nI (pp_cs b L p t).1 → mmw_closes_56 Q (nI r) (Int32.ofInt t) (nI r) x σ := by
    intro x hx
    subst hx
    unfold mmw_closes_56
    rw [ml_cl (by omega)]
    refine ⟨ml_in hr (by decide), fun σ1 e1 => ⟨ml_in hr (by decide), ml_in hr (by decide), fun σ2 e2 => ?_⟩⟩
    subst e1
    subst e2
    rw [gg_gs, if_neg (fun z => absurd z.1 (by decide)), h1, ml_iN L, ← Int32.ofInt_sub, ml_iNat (by omega)]
    have e : ((L : Int) - t).toNat = (pp_cs b L p t).2 := by
      unfold pp_cs
      split
      · show _ = L + t.natAbs
        omega
      · show _ = L - t.natAbs
        omega
    rw [e]
    exact hq
  unfold mmw_closes
  rw [ml_cl (by omega), h2, show (0 : Int32) = Int32.ofInt 0 from rfl, ml_iLe (by omega) (by omega) (by omega) (by omega), ml_mask (by omega) (by omega)]
  refine ⟨ml_in hr (by decide), fun hz => ⟨ml_in hr (by decide), key _ ?_⟩, fun hz => ⟨ml_in hr (by decide), key _ ?_⟩⟩
  · unfold pp_cs at hlt ⊢
    rw [if_neg (by omega)] at hlt ⊢
    have hlt : b % 2 ^ p + b / 2 ^ (p + t.natAbs) * 2 ^ p < 2 ^ (L - t.natAbs) := hlt
    have hM : (2 : Nat) ^ (L - t.natAbs) ≤ 2 ^ 24 := Nat.pow_le_pow_right (by decide) (by omega)
    rw [ml_iN p, ← Int32.ofInt_add, show ((p : Int) + t) = ((p + t.natAbs : Nat) : Int) by omega, ← ml_iN, ← ml_iN, ml_shr (by omega) (by omega), ml_shl (by omega) (by omega), ml_orS (Nat.mod_lt _ (Nat.two_pow_pos p))]
  · unfold pp_cs at hlt ⊢
    rw [if_pos (by omega)] at hlt ⊢
    have hlt : b % 2 ^ p + b / 2 ^ p * 2 ^ (p + t.natAbs) < 2 ^ (L + t.natAbs) := hlt
    have hM : (2 : Nat) ^ (L + t.natAbs) ≤ 2 ^ 24 := Nat.pow_le_pow_right (by decide) (by omega)
    rw [ml_iN p, ← Int32.ofInt_sub, show ((p : Int) - t) = ((p + t.natAbs : Nat) : Int) by omega, ← ml_iN, ← ml_iN, ml_shr (by omega) (by omega), ml_shl (by omega) (by omega),
      ml_orS (Nat.lt_of_lt_of_le (Nat.mod_lt _ (Nat.two_pow_pos p)) (Nat.pow_le_pow_right (by decide) (by omega)))]
end MS
