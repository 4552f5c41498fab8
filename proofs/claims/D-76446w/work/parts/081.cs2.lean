/-! THE CLASS: what a text says, what is taken and kept, runs -/
section CSC
variable {χ : xx_S} {Q : Int32 → xx_S → Prop}
theorem xx_me {k : Nat} {v : Int32} : xx_g (xx_s χ 0 k v) 0 k = v := by rw [xx_gs, if_pos ⟨rfl, rfl⟩]
theorem xx_ot {k q : Nat} {v : Int32} (h : q ≠ k) : xx_g (xx_s χ 0 k v) 0 q = xx_g χ 0 q := by rw [xx_gs, if_neg (fun z => h z.2)]
theorem xx_ro {i j : Nat} {k q : Nat} {v : Int32} (h : j ≠ i) : xx_g (xx_s χ i k v) j q = xx_g χ j q := by rw [xx_gs, if_neg (fun z => h z.1)]
theorem cs_says {f : Nat → pp_F} {w : Nat} {a2 a3 a4 : Int32} (hw : w < 3) (h : cc_tx χ f) (hq : ∀ χ', cc_e [] χ' χ → Q (f w (ma_env a2 a3 (xx_g χ 0 9) (xx_g χ 0 2) (xx_g χ 0 10) a4)) χ') : xxw_says (nI w) a2 a3 a4 χ Q := by
  obtain ⟨t, t1, t2, a, fn, h1, h2, h3, h4⟩ := h
  obtain ⟨y, y1, y2⟩ := h4 w hw
  unfold xxw_says
  rw [t2, ml_cl (by omega), ml_cl (by omega)]
  refine ⟨ml_in t1 (by decide), ml_in hw (by decide), a, y, fn, f w, h1, h2, h3, y1, y2, ?_⟩
  have e : xx_env (xx_s (xx_s (xx_s χ 0 7 a2) 0 8 a3) 0 11 a4) = ma_env a2 a3 (xx_g χ 0 9) (xx_g χ 0 2) (xx_g χ 0 10) a4 := by
    unfold xx_env
    rw [xx_ot (by decide), xx_ot (by decide), xx_me, xx_ot (by decide), xx_me, xx_ot (by decide), xx_ot (by decide), xx_ot (by decide), xx_ot (by decide), xx_ot (by decide), xx_ot (by decide), xx_ot (by decide), xx_ot (by decide), xx_ot (by decide), xx_me]
  rw [e]
  exact hq _ (cc_e_tr (cc_e_0 (by decide)) (cc_e_tr (cc_e_0 (by decide)) (cc_e_0 (by decide))))
theorem cs_looksAt {Q : xx_S → Prop} {p kd num ap : Nat} (hp : p < 5) (hf : cc_fo χ p kd num ap) (hq : ∀ χ', cc_e [] χ' χ → xx_g χ' 0 9 = nI num → xx_g χ' 0 10 = nI ap → Q χ') : xxw_looksAt (nI p) χ Q := by
  obtain ⟨⟨y, y1, y2⟩, hkd, hnum, hap⟩ := hf
  have m1 : ¬ nI p = -1 := fun z => by
    have := congrArg Int32.toInt z
    rw [nI_toInt (by omega), show (-1 : Int32).toInt = -1 by decide] at this
    omega
  unfold xxw_looksAt
  rw [ml_cl (by omega)]
  refine ⟨fun z => absurd z m1, fun _ => ⟨ml_in hp (by decide), y, y1, _, _, _, y2, ?_⟩⟩
  unfold xxw_looksAt_19
  rintro _ rfl
  rw [ml_cl (by omega)]
  refine ⟨fun z => absurd z m1, fun _ => ⟨ml_in hp (by decide), y, y1, _, _, _, cc_gl_e rfl y2, ?_⟩⟩
  unfold xxw_looksAt_41
  rintro _ rfl
  exact hq _ (cc_e_tr (cc_e_0 (by decide)) (cc_e_0 (by decide))) (by rw [xx_ot (by decide), xx_me]) xx_me
theorem cs_looksNo {Q : xx_S → Prop} (hq : ∀ χ', cc_e [] χ' χ → xx_g χ' 0 9 = 0 → xx_g χ' 0 10 = 0 → Q χ') : xxw_looksAt (-1) χ Q := by
  unfold xxw_looksAt
  refine ⟨fun _ => ?_, fun z => absurd rfl z⟩
  unfold xxw_looksAt_19
  rintro _ rfl
  refine ⟨fun _ => ?_, fun z => absurd rfl z⟩
  unfold xxw_looksAt_41
  rintro _ rfl
  exact hq _ (cc_e_tr (cc_e_0 (by decide)) (cc_e_0 (by decide))) (by rw [xx_ot (by decide), xx_me]) xx_me
theorem cc_fo_e {S : List Nat} {x y : xx_S} {p kd num ap : Nat} (h : cc_fo y p kd num ap) (e : cc_e S x y) : cc_fo x p kd num ap := by
  obtain ⟨⟨q, q1, q2⟩, q3⟩ := h
  exact ⟨⟨q, by show x.2.1 43 p = _; rw [e.2]; exact q1, cc_gl_e e.2 q2⟩, q3⟩
theorem cc_tx_e {S : List Nat} {x y : xx_S} {f : Nat → pp_F} (h : cc_tx y f) (e : cc_e S x y) (hs : 0 ∉ S) : cc_tx x f := by
  obtain ⟨t, t1, t2, t3⟩ := h
  exact ⟨t, t1, by rw [e.1 0 24 (fun _ => by decide) hs]; exact t2, cc_text_pool t3 (cc_pool_e e.2)⟩
theorem cs_tkfin {t : Int} {g : Nat} (h1 : -2 ^ 31 ≤ t) (h2 : t < 2 ^ 31) (hg : g ≤ 24) (hq : Q (Int32.ofInt (if t < 0 then t else min t g)) χ) :
    ((0 ≤ Int32.ofInt t) → Q (if nI g < Int32.ofInt t then nI g else Int32.ofInt t) χ) ∧ (¬ (0 ≤ Int32.ofInt t) → Q (Int32.ofInt t) χ) := by
  rw [show (0 : Int32) ≤ Int32.ofInt t ↔ 0 ≤ t from by rw [show (0 : Int32) = Int32.ofInt 0 from rfl, ml_iLe (by omega) (by omega) h1 h2], ml_iN g]
  refine ⟨fun h => ?_, fun h => ?_⟩
  · rw [if_neg (by omega)] at hq
    by_cases e : (g : Int) < t
    · rw [if_pos ((ml_iLt (by omega) (by omega) h1 h2).mpr e)]
      rw [Int.min_eq_right (by omega)] at hq
      exact hq
    · rw [if_neg (fun z => e ((ml_iLt (by omega) (by omega) h1 h2).mp z))]
      rw [Int.min_eq_left (by omega)] at hq
      exact hq
  · rw [if_pos (by omega)] at hq
    exact hq
theorem cs_vtaking {y kd num ap v g : Nat} (hgl : xx_gl χ y (9 + kd) (nI num) (nI ap)) (hv : v ≤ 99) (hg : g ≤ 24) (hkd : kd ≤ 5) (hnum : num ≤ 9) (hap : ap ≤ 999) (hq : Q (Int32.ofInt (pp_tk kd num ap v g)) χ) : xxw_vtaking y (nI v) (nI g) χ Q := by
  have fin : ∀ t : Int, -2 ^ 31 ≤ t → t < 2 ^ 31 → pp_tk kd num ap v g = (if t < 0 then t else min t g) → ((0 ≤ Int32.ofInt t) → Q (if nI g < Int32.ofInt t then nI g else Int32.ofInt t) χ) ∧ (¬ (0 ≤ Int32.ofInt t) → Q (Int32.ofInt t) χ) := fun t h1 h2 e => cs_tkfin h1 h2 hg (by rw [← e]; exact hq)
  have finN : ∀ t : Nat, t < 2 ^ 31 → pp_tk kd num ap v g = min (t : Int) g → ((0 ≤ nI t) → Q (if nI g < nI t then nI g else nI t) χ) ∧ (¬ (0 ≤ nI t) → Q (nI t) χ) := fun t h e => by
    rw [ml_iN t]
    exact fin t (by omega) (by omega) (by rw [e, if_neg (by omega)])
  have eg : nI (g % 2) = 1 ↔ g % 2 = 1 := nI_eq (b := 1) (by omega) (by decide)
  have eg1 : nI g = 1 ↔ g = 1 := nI_eq (b := 1) (by omega) (by decide)
  have wid : kd = 1 ∨ kd = 3 ∧ g ≠ 1 → xxw_G10_takes y (nI v) (nI g) χ (fun r2 σ1 => (((0 ≤ r2) → Q (if nI g < r2 then nI g else r2) σ1) ∧ (¬ (0 ≤ r2) → Q r2 σ1))) := by
    intro h
    unfold xxw_G10_takes xxw_G9_takes
    rw [ml_rem2 (by omega), eg]
    have e : pp_tk kd num ap v g = min ((v + g % 2 : Nat) : Int) g := by
      unfold pp_tk
      rw [if_neg (by omega), if_neg (by omega), if_neg (by omega), if_pos (by omega)]
    refine ⟨fun h1 => ⟨_, _, _, hgl, ?_⟩, fun h1 => ⟨_, _, _, hgl, ?_⟩⟩
    · have h9 := finN (v + 1) (by omega) (by rw [e, h1])
      rw [← nI_1] at h9
      exact h9
    · exact finN v (by omega) (by rw [e, show g % 2 = 0 by omega, Nat.add_zero])
  have key : xxw_G9_taking y (nI v) (nI g) χ Q := by
    unfold xxw_G9_taking xxw_vtakes
    refine ⟨_, _, _, hgl, ?_⟩
    rcases (show kd = 0 ∨ kd = 1 ∨ kd = 2 ∨ kd = 3 ∨ kd = 4 ∨ kd = 5 by omega) with rfl | rfl | rfl | rfl | rfl | rfl
    · refine ⟨fun _ => ?_, fun z => absurd z (by decide), fun z => absurd z (by decide), fun z => absurd z (by decide), fun z => absurd z (by decide), fun z => absurd z (by decide)⟩
      exact finN v (by omega) rfl
    · refine ⟨fun z => absurd z (by decide), fun _ => wid (Or.inl rfl), fun z => absurd z (by decide), fun z => absurd z (by decide), fun z => absurd z (by decide), fun z => absurd z (by decide)⟩
    · refine ⟨fun z => absurd z (by decide), fun z => absurd z (by decide), fun _ => ?_, fun z => absurd z (by decide), fun z => absurd z (by decide), fun z => absurd z (by decide)⟩
      exact finN g (by omega) (by show ((g : Nat) : Int) = _; omega)
    · refine ⟨fun z => absurd z (by decide), fun z => absurd z (by decide), fun z => absurd z (by decide), fun _ => ?_, fun z => absurd z (by decide), fun z => absurd z (by decide)⟩
      unfold xxw_G12_takes
      rw [eg1]
      refine ⟨fun h1 => ?_, fun h1 => ⟨_, _, _, hgl, wid (Or.inr ⟨rfl, h1⟩)⟩⟩
      exact finN 0 (by decide) (by unfold pp_tk; rw [if_neg (by decide), if_neg (by decide), if_pos ⟨rfl, h1⟩]; omega)
    · refine ⟨fun z => absurd z (by decide), fun z => absurd z (by decide), fun z => absurd z (by decide), fun z => absurd z (by decide), fun _ => ?_, fun z => absurd z (by decide)⟩
      unfold xxw_G13_takes
      refine ⟨_, _, _, hgl, _, _, _, hgl, ?_⟩
      rw [nI_ltI (by omega) (by omega)]
      refine ⟨fun h1 => ⟨_, _, _, hgl, ?_⟩, fun h1 => ⟨_, _, _, hgl, ?_⟩⟩
      · exact finN g (by omega) (by unfold pp_tk; rw [if_neg (by decide), if_pos rfl, if_neg (by omega)]; omega)
      · rw [ml_iN num, ← Int32.ofInt_neg]
        exact fin _ (by omega) (by omega) (by unfold pp_tk; rw [if_neg (by decide), if_pos rfl, if_pos (by omega)]; split <;> omega)
    · refine ⟨fun z => absurd z (by decide), fun z => absurd z (by decide), fun z => absurd z (by decide), fun z => absurd z (by decide), fun z => absurd z (by decide), fun _ => ?_⟩
      unfold xxw_G14_takes xxw_G9_takes
      have h9 := finN (v / 2) (by omega) rfl
      rw [← ml_div2 (by omega)] at h9
      exact ⟨_, _, _, hgl, h9⟩
  unfold xxw_vtaking
  exact ⟨_, _, _, hgl, fun _ => key, fun _ => key, fun _ => key, fun _ => key, fun _ => key, fun _ => key⟩
theorem cs_takingOf {f : Nat → pp_F} {p g kd num ap : Nat} {a3 a4 : Int32} (hp : p < 5) (ht : cc_tx χ f) (hg : g ≤ 24) (hf : cc_fo χ p kd num ap)
    (hq : ∀ χ', cc_e [] χ' χ → Q (Int32.ofInt (pp_tk kd num ap (ma_say f 0 99 (ma_env (nI g) a3 (nI num) (xx_g χ 0 2) (nI ap) a4)) g)) χ') : xxw_takingOf (nI p) (nI g) a3 a4 χ Q := by
  unfold xxw_takingOf
  refine cs_looksAt hp hf (fun χ1 e1 g9 g10 => ?_)
  obtain ⟨⟨y, y1, y2⟩, hkd, hnum, hap⟩ := cc_fo_e hf e1
  rw [ml_cl (by omega)]
  refine ⟨ml_in hp (by decide), y, y1, cs_says (w := 0) (by decide) (cc_tx_e ht e1 (by decide)) (fun χ2 e2 => ?_)⟩
  rw [g9, g10, e1.1 0 2 (fun _ => by decide) (by decide)]
  refine cs_held (hi := 99) (by decide) ?_
  have e21 := cc_e_tr e2 e1
  exact cs_vtaking (cc_gl_e e2.2 y2) ml_cl_r hg hkd hnum hap (hq χ2 e21)
theorem cs_vkeeps {y kd num ap v : Nat} (hgl : xx_gl χ y (9 + kd) (nI num) (nI ap)) (hv : v ≤ 100) (hkd : kd ≤ 5) (hnum : num ≤ 9) (hap : ap ≤ 999)
    (hq : Q (Int32.ofInt (if kd = 2 then (ap : Int) else if kd = 4 then ((ap / 2 : Nat) : Int) else if kd = 5 then 0 else ((ap * v / 100 : Nat) : Int) - (if kd = 3 then (num : Int) else 0))) χ) : xxw_vkeeps y (nI v) χ Q := by
  have hm : ap * v ≤ 999 * 100 := Nat.mul_le_mul hap hv
  have hd : nI (ap * v) / 100 = nI (ap * v / 100) := pk_div (a := ap * v) (d := 100) (by omega) (by decide) (by decide)
  unfold xxw_vkeeps
  refine ⟨_, _, _, hgl, ?_⟩
  rcases (show kd = 0 ∨ kd = 1 ∨ kd = 2 ∨ kd = 3 ∨ kd = 4 ∨ kd = 5 by omega) with rfl | rfl | rfl | rfl | rfl | rfl
  · refine ⟨fun _ => ?_, fun z => absurd z (by decide), fun z => absurd z (by decide), fun z => absurd z (by decide), fun z => absurd z (by decide), fun z => absurd z (by decide)⟩
    unfold xxw_G9_keeps
    refine ⟨_, _, _, hgl, ?_⟩
    rw [pk_mul, hd, ml_iN]
    simpa using hq
  · refine ⟨fun z => absurd z (by decide), fun _ => ?_, fun z => absurd z (by decide), fun z => absurd z (by decide), fun z => absurd z (by decide), fun z => absurd z (by decide)⟩
    unfold xxw_G9_keeps
    refine ⟨_, _, _, hgl, ?_⟩
    rw [pk_mul, hd, ml_iN]
    simpa using hq
  · refine ⟨fun z => absurd z (by decide), fun z => absurd z (by decide), fun _ => ?_, fun z => absurd z (by decide), fun z => absurd z (by decide), fun z => absurd z (by decide)⟩
    unfold xxw_G11_keeps
    refine ⟨_, _, _, hgl, ?_⟩
    rw [ml_iN]
    simpa using hq
  · refine ⟨fun z => absurd z (by decide), fun z => absurd z (by decide), fun z => absurd z (by decide), fun _ => ?_, fun z => absurd z (by decide), fun z => absurd z (by decide)⟩
    unfold xxw_G12_keeps xxw_G9_keeps
    refine ⟨_, _, _, hgl, _, _, _, hgl, _, _, _, hgl, ?_⟩
    rw [pk_mul, hd, ml_iN, ml_iN, ← Int32.ofInt_sub]
    simpa using hq
  · refine ⟨fun z => absurd z (by decide), fun z => absurd z (by decide), fun z => absurd z (by decide), fun z => absurd z (by decide), fun _ => ?_, fun z => absurd z (by decide)⟩
    unfold xxw_G13_keeps xxw_G11_keeps
    refine ⟨_, _, _, hgl, _, _, _, hgl, ?_⟩
    show Q (nI ap / 2) χ
    rw [ml_div2 (by omega), ml_iN]
    simpa using hq
  · refine ⟨fun z => absurd z (by decide), fun z => absurd z (by decide), fun z => absurd z (by decide), fun z => absurd z (by decide), fun z => absurd z (by decide), fun _ => ?_⟩
    unfold xxw_G14_keeps
    exact hq
theorem cs_vkind {y kd : Nat} {n a : Int32} (hgl : xx_gl χ y (9 + kd) n a) (hkd : kd ≤ 5) (hq : Q (nI kd) χ) : xxw_vkind y χ Q := by
  unfold xxw_vkind
  refine ⟨_, _, _, hgl, ?_⟩
  rcases (show kd = 0 ∨ kd = 1 ∨ kd = 2 ∨ kd = 3 ∨ kd = 4 ∨ kd = 5 by omega) with rfl | rfl | rfl | rfl | rfl | rfl
  · exact ⟨fun _ => hq, fun z => absurd z (by decide), fun z => absurd z (by decide), fun z => absurd z (by decide), fun z => absurd z (by decide), fun z => absurd z (by decide)⟩
  · exact ⟨fun z => absurd z (by decide), fun _ => ⟨_, _, _, hgl, hq⟩, fun z => absurd z (by decide), fun z => absurd z (by decide), fun z => absurd z (by decide), fun z => absurd z (by decide)⟩
  · exact ⟨fun z => absurd z (by decide), fun z => absurd z (by decide), fun _ => ⟨_, _, _, hgl, hq⟩, fun z => absurd z (by decide), fun z => absurd z (by decide), fun z => absurd z (by decide)⟩
  · exact ⟨fun z => absurd z (by decide), fun z => absurd z (by decide), fun z => absurd z (by decide), fun _ => ⟨_, _, _, hgl, _, _, _, hgl, hq⟩, fun z => absurd z (by decide), fun z => absurd z (by decide)⟩
  · exact ⟨fun z => absurd z (by decide), fun z => absurd z (by decide), fun z => absurd z (by decide), fun z => absurd z (by decide), fun _ => ⟨_, _, _, hgl, _, _, _, hgl, hq⟩, fun z => absurd z (by decide)⟩
  · exact ⟨fun z => absurd z (by decide), fun z => absurd z (by decide), fun z => absurd z (by decide), fun z => absurd z (by decide), fun z => absurd z (by decide), fun _ => ⟨_, _, _, hgl, hq⟩⟩
theorem cs_keepsOf {K : pp_K} {c : pp_C} {p : Nat} (h : cc_C χ K c) (hp : p < K.many) (hq : ∀ χ', cc_e [] χ' χ → Q (nI (pp_keep K c p)) χ') : xxw_keepsOf (nI p) χ Q := by
  obtain ⟨h1, h2, h3, h4, h5, h6, h7⟩ := h
  unfold xxw_keepsOf
  refine cs_looksAt (by omega) (h4 p hp) (fun χ1 e1 g9 g10 => ?_)
  obtain ⟨⟨y, y1, y2⟩, hkd, hnum, hap⟩ := cc_fo_e (h4 p hp) e1
  rw [ml_cl (by omega)]
  refine ⟨ml_in (by omega) (by decide), y, y1, cs_says (w := 1) (by decide) (cc_tx_e h6 e1 (by decide)) (fun χ2 e2 => ?_)⟩
  rw [g9, g10, e1.1 0 2 (fun _ => by decide) (by decide), h5]
  refine cs_held (hi := 100) (by decide) ?_
  have e21 := cc_e_tr e2 e1
  have hv9 : (pp_cl 0 (100 : Nat) ((K.f 1 (ma_env 0 0 (nI (K.num p)) (nI c.nt) (nI (c.ap p)) 0)).toInt)).toNat ≤ 100 := ml_cl_r
  refine cs_vkeeps (cc_gl_e e2.2 y2) hv9 hkd hnum hap (cs_held (hi := 999) (by decide) ?_)
  have hq' := hq χ2 e21
  unfold pp_keep ma_say at hq'
  have hm : c.ap p * (pp_cl 0 (100 : Nat) ((K.f 1 (ma_env 0 0 (nI (K.num p)) (nI c.nt) (nI (c.ap p)) 0)).toInt)).toNat ≤ 999 * 100 := Nat.mul_le_mul hap hv9
  by_cases k2 : K.kd p = 2
  · rw [if_pos k2] at hq' ⊢
    rw [ml_iT (by omega) (by omega)]
    have : (pp_cl 0 (999 : Nat) ((c.ap p : Nat) : Int)).toNat = c.ap p := by unfold pp_cl; rw [if_neg (by omega), if_neg (by omega)]; omega
    rw [this]; exact hq'
  · rw [if_neg k2] at hq' ⊢
    by_cases k4 : K.kd p = 4
    · rw [if_pos k4] at hq' ⊢
      rw [ml_iT (by omega) (by omega)]
      have : (pp_cl 0 (999 : Nat) ((c.ap p / 2 : Nat) : Int)).toNat = c.ap p / 2 := by unfold pp_cl; rw [if_neg (by omega), if_neg (by omega)]; omega
      rw [this]; exact hq'
    · rw [if_neg k4] at hq' ⊢
      by_cases k5 : K.kd p = 5
      · rw [if_pos k5] at hq' ⊢
        exact hq'
      · rw [if_neg k5] at hq' ⊢
        rw [ml_iT (by split <;> omega) (by split <;> omega)]
        exact hq'
theorem cs_shakesOf {K : pp_K} {c : pp_C} {r : Nat} (h : cc_C χ K c) (hr : r < 4) (hq : ∀ χ', cc_e [] χ' χ → Q (nI (pp_shake K c r)) χ') : xxw_shakesOf (nI r) χ Q := by
  unfold xxw_shakesOf
  refine cs_looksNo (fun χ1 e1 g9 g10 => ?_)
  have h1 := cc_C_e h e1 (by decide)
  refine cs_gapsOf hr (h1.2.2.1 r hr) (cs_says (w := 2) (by decide) h1.2.2.2.2.2.1 (fun χ2 e2 => cs_held (hi := 9) (by decide) ?_))
  rw [g9, g10, h1.2.2.2.2.1]
  exact hq χ2 (cc_e_tr e2 e1)
/-! runs -/
/-- what is known at place k: so many runs told, a run of z gaps open -/
def cc_at (b L k z : Nat) (dn all : List (Nat × Nat)) : Prop := z ≤ k ∧ all = dn ++ pp_rn b L (k - z) ∧ (z = 0 ∨ (pp_gap b L (k - z) ∧ pp_gz b L (k - z) = z + pp_gz b L k))
theorem cc_at_gap {b L k z : Nat} {dn all : List (Nat × Nat)} (h : cc_at b L k z dn all) (g : pp_gap b L k) : cc_at b L (k + 1) (z + 1) dn all := by
  obtain ⟨h1, h2, h3⟩ := h
  have hz := pp_gz_pos g
  refine ⟨by omega, by rw [show k + 1 - (z + 1) = k - z by omega]; exact h2, Or.inr ?_⟩
  rw [show k + 1 - (z + 1) = k - z by omega]
  rcases h3 with h3 | ⟨h3, h4⟩
  · subst h3
    rw [Nat.sub_zero]
    exact ⟨g, by omega⟩
  · exact ⟨h3, by omega⟩
theorem cc_at_no {b L k z : Nat} {dn all : List (Nat × Nat)} (h : cc_at b L k z dn all) (g : ¬ pp_gap b L k) : cc_at b L (k + 1) 0 (if z = 0 then dn else dn ++ [(k - z, z)]) all := by
  obtain ⟨h1, h2, h3⟩ := h
  have hnx : pp_rn b L k = pp_rn b L (k + 1) := by
    by_cases hk : k < L
    · exact pp_rn_no hk g
    · rw [pp_rn_end (by omega), pp_rn_end (by omega)]
  refine ⟨Nat.zero_le _, ?_, Or.inl rfl⟩
  rw [Nat.sub_zero, ← hnx]
  by_cases hz : z = 0
  · rw [if_pos hz]
    rw [hz, Nat.sub_zero] at h2
    exact h2
  · rw [if_neg hz]
    obtain ⟨h3, h4⟩ := h3.resolve_left hz
    rw [pp_gz_zero g, Nat.add_zero] at h4
    rw [pp_rn_gap h3, h4, show k - z + z = k by omega] at h2
    rw [h2, List.append_assoc]
    rfl
/-- only the sizes are others -/
def cc_e3 (x y : xx_S) : Prop := (∀ i k, i ≠ 3 → xx_g x i k = xx_g y i k) ∧ x.2 = y.2
theorem cc_e3_rf : cc_e3 χ χ := ⟨fun _ _ _ => rfl, rfl⟩
theorem cc_e3_tr {x y z : xx_S} (h1 : cc_e3 x y) (h2 : cc_e3 y z) : cc_e3 x z := ⟨fun i k a => (h1.1 i k a).trans (h2.1 i k a), h1.2.trans h2.2⟩
theorem cc_e3_s {k : Nat} {v : Int32} : cc_e3 (xx_s χ 3 k v) χ := ⟨fun j q a => by rw [xx_gs, if_neg (fun z => a z.1)], rfl⟩
theorem cc_e_3 {x y : xx_S} (h : cc_e3 x y) : cc_e [3] x y := ⟨fun i k _ b => h.1 i k (fun z => b (by rw [z]; decide)), h.2⟩
theorem cs_tellsRuns_7 {r L b : Nat} (hr : r < 4) {all : List (Nat × Nat)} (hal : all.length ≤ 24) {χ0 : xx_S} (h0 : cc_row χ0 r L b) (hq : ∀ χ', cc_e3 χ' χ0 → (∀ (j : Nat) (q : Nat × Nat), all[j]? = some q → xx_g χ' 3 j = nI q.2) → Q (nI all.length) χ') :
    ∀ (d k z : Nat) (dn : List (Nat × Nat)) (χ : xx_S), k + d = L + 1 → cc_at b L k z dn all → cc_e3 χ χ0 → (∀ (j : Nat) (q : Nat × Nat), dn[j]? = some q → xx_g χ 3 j = nI q.2) → xxw_tellsRuns_7 Q (d + 1) (nI r) (nI dn.length) (nI z) (nI k) χ := by
  obtain ⟨r1, r2, r3, r4⟩ := h0
  have h24 := ml_24 r3 r4
  intro d
  induction d with
  | zero =>
    intro k z dn χ h1 hat he hdn
    have hz : z = 0 := by
      rcases hat.2.2 with e | ⟨g, e⟩
      · exact e
      · have : ¬ pp_gap b L k := fun q => by have := q.1; omega
        rw [pp_gz_zero this, Nat.add_zero] at e
        have := pp_gz_le b L L (k - z) (by omega)
        have h9 := g.1
        have h8 := hat.1
        rw [e] at this
        omega
    subst hz
    have hall : all = dn := by
      have := hat.2.1
      rw [Nat.sub_zero, pp_rn_end (by omega), List.append_nil] at this
      exact this
    subst hall
    unfold xxw_tellsRuns_7
    rw [ml_cl (by omega), he.1 1 r (by decide), r1, nI_ltI (by omega) (by omega)]
    exact ⟨ml_in hr (by decide), fun _ => hq χ he hdn, fun q => absurd (show L < k by omega) q⟩
  | succ d ih =>
    intro k z dn χ h1 hat he hdn
    have g1 : xx_g χ 1 r = nI L := by rw [he.1 1 r (by decide)]; exact r1
    have g2 : xx_g χ 2 r = nI b := by rw [he.1 2 r (by decide)]; exact r2
    have hzk := hat.1
    -- a gap at k
    have yes : pp_gap b L k → xxw_tellsRuns_48 Q (fun y0 y1 y2 y3 τ => xxw_tellsRuns_7 Q (d + 1) y0 y1 y2 y3 τ) (nI r) (nI dn.length) (nI z) (nI k) 1 χ := by
      intro g
      unfold xxw_tellsRuns_48
      refine ⟨fun q => absurd q (by decide), fun _ => ?_⟩
      unfold xxw_tellsRuns_69 xxw_tellsRuns_81
      rw [nI_1, nI_1]
      exact ⟨fun q => absurd q (by decide), fun _ => ih (k + 1) (z + 1) dn χ (by omega) (cc_at_gap hat g) he hdn⟩
    have no : ¬ pp_gap b L k → xxw_tellsRuns_47 Q (fun y0 y1 y2 y3 τ => xxw_tellsRuns_7 Q (d + 1) y0 y1 y2 y3 τ) (nI r) (nI dn.length) (nI z) (nI k) χ := by
      intro g
      have hat' := cc_at_no hat g
      unfold xxw_tellsRuns_47 xxw_tellsRuns_48 xxw_tellsRuns_69 xxw_tellsRuns_81
      rw [show nI z ≤ 0 ↔ z ≤ 0 from nI_leI (b := 0) (by omega) (by decide), nI_1, nI_1, nI_1]
      refine ⟨fun _ => ⟨fun hz => ⟨fun _ => ?_, fun q => absurd rfl q⟩, fun hz => ?_⟩, fun q => absurd rfl q⟩
      · rw [if_pos (by omega)] at hat'
        exact ih (k + 1) 0 dn χ (by omega) hat' he hdn
      · rw [if_neg (by omega)] at hat'
        have hlen : dn.length < all.length := by
          rw [hat'.2.1, List.length_append, List.length_append]
          simp
          omega
        rw [ml_cl (by omega)]
        refine ⟨ml_in (by omega) (by decide), ?_⟩
        rintro _ rfl
        refine ⟨fun _ => ?_, fun q => absurd rfl q⟩
        have := ih (k + 1) 0 (dn ++ [(k - z, z)]) (xx_s χ 3 dn.length (nI z)) (by omega) hat' (cc_e3_tr cc_e3_s he) (fun j q hj => ?_)
        · rw [List.length_append] at this
          exact this
        · rw [xx_gs]
          by_cases e : j = dn.length
          · rw [if_pos ⟨rfl, e⟩]
            rw [e, List.getElem?_append_right (Nat.le_refl _), Nat.sub_self] at hj
            cases hj
            rfl
          · rw [if_neg (fun q => e q.2)]
            refine hdn j q ?_
            by_cases hlt : j < dn.length
            · rw [List.getElem?_append_left hlt] at hj
              exact hj
            · rw [List.getElem?_append_right (by omega), List.getElem?_eq_none (by simp; omega)] at hj
              cases hj
    unfold xxw_tellsRuns_7
    rw [ml_cl (by omega), g1, g2, nI_ltI (by omega) (by omega), nI_leI (by omega) (by omega)]
    refine ⟨ml_in hr (by decide), fun q => by omega, fun _ => ⟨ml_in hr (by decide), fun q => no (fun g => by have := g.1; omega), fun hk => ⟨ml_in hr (by decide), ?_⟩⟩⟩
    refine cs_isIn (by omega) (by omega) (fun e => ml_1 (no (fun g => by have := g.2; rw [e] at this; cases this))) (fun e => ml_0 (yes ⟨by omega, e⟩))
theorem cs_tellsRuns {r L b : Nat} (hr : r < 4) (h : cc_row χ r L b) (hq : ∀ χ', cc_e3 χ' χ → (∀ (j : Nat) (q : Nat × Nat), (pp_runs b L)[j]? = some q → xx_g χ' 3 j = nI q.2) → Q (nI (pp_runs b L).length) χ') : xxw_tellsRuns (nI r) χ Q := by
  have hlen : (pp_runs b L).length ≤ L := pp_rn_len b L L 0 (by omega)
  have hL := h.2.2.1
  exact ⟨L + 2, cs_tellsRuns_7 hr (all := pp_runs b L) (by omega) h hq (L + 1) 0 0 [] χ (by omega) ⟨Nat.le_refl _, rfl, Or.inl rfl⟩ cc_e3_rf (fun j q hj => by simp at hj)⟩
theorem cs_greatest_11 {all : List (Nat × Nat)} (hal : all.length ≤ 24) (hsz : ∀ q, q ∈ all → q.2 ≤ 24) (hru : ∀ (j : Nat) (q : Nat × Nat), all[j]? = some q → xx_g χ 3 j = nI q.2) :
    ∀ (rest : List (Nat × Nat)) (k m : Nat), all.drop k = rest → k ≤ all.length → m ≤ 24 → Q (nI (pp_gt rest m)) χ → xxw_greatest_11 Q (rest.length + 1) (nI all.length) (nI m) (nI k) χ := by
  intro rest
  induction rest with
  | nil =>
    intro k m h1 h2 h3 hq
    have : all.length ≤ k := by
      have := congrArg List.length h1
      rw [List.length_drop] at this
      simp at this
      omega
    unfold xxw_greatest_11
    rw [nI_leI (by omega) (by omega)]
    exact ⟨fun _ => hq, fun z => absurd this z⟩
  | cons q rest ih =>
    intro k m h1 h2 h3 hq
    have hk : k < all.length := by
      have := congrArg List.length h1
      rw [List.length_drop] at this
      simp at this
      omega
    have hg : all[k]? = some q := by
      have := congrArg (fun l => l[0]?) h1
      simpa using this
    have hmem : q ∈ all := List.mem_of_getElem? hg
    have h24 := hsz q hmem
    have hdr : all.drop (k + 1) = rest := by
      have := congrArg (List.drop 1) h1
      rw [List.drop_drop] at this
      simpa [Nat.add_comm] using this
    unfold xxw_greatest_11
    unfold pp_gt at hq
    rw [nI_leI (by omega) (by omega), ml_cl (by omega), hru k q hg, nI_1 k]
    refine ⟨fun z => by omega, fun _ => ⟨ml_in (by omega) (by decide), ?_⟩⟩
    by_cases h : m < q.2
    · rw [if_pos h] at hq
      rw [if_pos ((nI_ltI (by omega) (by omega)).mpr h)]
      exact ih (k + 1) q.2 hdr (by omega) h24 hq
    · rw [if_neg h] at hq
      rw [if_neg (fun z => h ((nI_ltI (by omega) (by omega)).mp z))]
      exact ih (k + 1) m hdr (by omega) h3 hq
theorem cs_greatest {r L b : Nat} (hr : r < 4) (h : cc_row χ r L b) (hq : ∀ χ', cc_e3 χ' χ → Q (nI (pp_gt (pp_runs b L) 0)) χ') : xxw_greatest (nI r) χ Q := by
  have hL := h.2.2.1
  have hlen : (pp_runs b L).length ≤ L := pp_rn_len b L L 0 (by omega)
  unfold xxw_greatest
  exact cs_tellsRuns hr h (fun χ1 he hru => ⟨_, cs_greatest_11 (by omega) (fun q hm => by have := pp_runs_sz hm; omega) hru _ 0 0 rfl (Nat.zero_le _) (by decide) (hq χ1 he)⟩)
theorem cs_closes {Q : xx_S → Prop} {r L b p : Nat} {t : Int} (hr : r < 4) (h : cc_row χ r L b) (hp : p ≤ L) (ht : t ≤ (L : Int) - p) (ht2 : -(24 - L : Int) ≤ t)
    (hq : Q (xx_s (xx_s χ 2 r (nI (pp_cs b L p t).1)) 1 r (nI (pp_cs b L p t).2))) : xxw_closes (nI r) (nI p) (Int32.ofInt t) χ Q := by
  obtain ⟨h1, h2, h3, h4⟩ := h
  have h5 := ml_24 h3 h4
  have hlt := ml_cs_lt hp h4 ht
  have key : ∀ (x : Int32), x = nI (pp_cs b L p t).1 → xxw_closes_69 Q (nI r) (Int32.ofInt t) (nI r) x χ := by
    intro x hx
    subst hx
    unfold xxw_closes_69
    rw [ml_cl (by omega)]
    refine ⟨ml_in hr (by decide), ?_⟩
    rintro _ rfl
    refine ⟨ml_in hr (by decide), ml_in hr (by decide), ?_⟩
    rintro _ rfl
    rw [xx_ro (show (1 : Nat) ≠ 2 by decide), h1, ml_iN L, ← Int32.ofInt_sub, ml_iNat (by omega)]
    have e : ((L : Int) - t).toNat = (pp_cs b L p t).2 := by
      unfold pp_cs
      split
      · show _ = L + t.natAbs
        omega
      · show _ = L - t.natAbs
        omega
    rw [e]
    exact hq
  unfold xxw_closes
  rw [ml_cl (by omega), h2, show (0 : Int32) = Int32.ofInt 0 from rfl, ml_iLe (by omega) (by omega) (by omega) (by omega), ml_mask (by omega) (by omega)]
  unfold xxw_closes_39
  rw [show (0 : Int32) = Int32.ofInt 0 from rfl, ml_iLe (by omega) (by omega) (by omega) (by omega)]
  refine ⟨ml_in hr (by decide), fun hz => ⟨ml_in hr (by decide), fun _ => key _ ?_, fun q => absurd hz q⟩, fun hz => ⟨ml_in hr (by decide), fun q => absurd q hz, fun _ => key _ ?_⟩⟩
  · by_cases h0 : t = 0
    · subst h0
      unfold pp_cs at hlt ⊢
      rw [if_neg (by omega)] at hlt ⊢
      have hlt : b % 2 ^ p + b / 2 ^ (p + 0) * 2 ^ p < 2 ^ (L - 0) := hlt
      have hM : (2 : Nat) ^ (L - 0) ≤ 2 ^ 24 := Nat.pow_le_pow_right (by decide) (by omega)
      rw [Nat.add_zero] at hlt
      rw [show nI p - Int32.ofInt 0 = nI p from Int32.sub_zero _, ml_shr (by omega) (by omega), ml_shl (by omega) (by omega), ml_orS (Nat.mod_lt _ (Nat.two_pow_pos p))]
      rfl
    · unfold pp_cs at hlt ⊢
      rw [if_pos (by omega)] at hlt ⊢
      have hlt : b % 2 ^ p + b / 2 ^ p * 2 ^ (p + t.natAbs) < 2 ^ (L + t.natAbs) := hlt
      have hM : (2 : Nat) ^ (L + t.natAbs) ≤ 2 ^ 24 := Nat.pow_le_pow_right (by decide) (by omega)
      rw [ml_iN p, ← Int32.ofInt_sub, show ((p : Int) - t) = ((p + t.natAbs : Nat) : Int) by omega, ← ml_iN, ← ml_iN, ml_shr (by omega) (by omega), ml_shl (by omega) (by omega),
        ml_orS (Nat.lt_of_lt_of_le (Nat.mod_lt _ (Nat.two_pow_pos p)) (Nat.pow_le_pow_right (by decide) (by omega)))]
  · unfold pp_cs at hlt ⊢
    rw [if_neg (by omega)] at hlt ⊢
    have hlt : b % 2 ^ p + b / 2 ^ (p + t.natAbs) * 2 ^ p < 2 ^ (L - t.natAbs) := hlt
    have hM : (2 : Nat) ^ (L - t.natAbs) ≤ 2 ^ 24 := Nat.pow_le_pow_right (by decide) (by omega)
    rw [ml_iN p, ← Int32.ofInt_add, show ((p : Int) + t) = ((p + t.natAbs : Nat) : Int) by omega, ← ml_iN, ← ml_iN, ml_shr (by omega) (by omega), ml_shl (by omega) (by omega), ml_orS (Nat.mod_lt _ (Nat.two_pow_pos p))]
end CSC
