/-! THE CLASS'S METHODS against the abstract state, on: sets of settings -/
section CSM
variable {χ : xx_S} {s : pp_S} {Q : Int32 → xx_S → Prop}
/-! plain: the ways up and down agree -/
def pp_or (so : Nat → Bool) : Nat → Nat
  | 0 => 0
  | v + 1 => pp_or so v ||| (if so v then 2 ^ v else 0)
def pp_ct (so : Nat → Bool) : Nat → Nat
  | 0 => 0
  | v + 1 => pp_ct so v + (if so v then 1 else 0)
theorem pp_dn_or {so : Nat → Bool} : ∀ (m : Nat) (a : Nat × Nat × Int32), m ≤ 10 → (pp_dn so m a).1 = pp_or so m ||| a.1 := by
  intro m
  induction m with
  | zero => intro a _; show a.1 = 0 ||| a.1; rw [Nat.zero_or]
  | succ v ih =>
    intro a hm
    unfold pp_dn pp_or
    rw [ih _ (by omega), Nat.or_assoc]
    congr 1
    cases e : so v with
    | true => rw [if_pos rfl, if_pos rfl, if_pos (by omega), Nat.or_comm]
    | false => rw [if_neg (by decide), if_neg (by decide), Nat.zero_or]
theorem pp_dn_ct {so : Nat → Bool} : ∀ (m : Nat) (a : Nat × Nat × Int32), (pp_dn so m a).2.1 = pp_ct so m + a.2.1 := by
  intro m
  induction m with
  | zero => intro a; show a.2.1 = 0 + a.2.1; rw [Nat.zero_add]
  | succ v ih =>
    intro a
    unfold pp_dn pp_ct
    rw [ih]
    cases e : so v with
    | true => rw [if_pos rfl, if_pos rfl]; show pp_ct so v + (a.2.1 + 1) = _; omega
    | false => rw [if_neg (by decide), if_neg (by decide)]; omega
theorem pp_dn_none {so : Nat → Bool} : ∀ (m : Nat) (a : Nat × Nat × Int32), (∀ u, u < m → so u = false) → pp_dn so m a = a := by
  intro m
  induction m with
  | zero => intro a _; rfl
  | succ v ih =>
    intro a h
    unfold pp_dn
    rw [h v (by omega), if_neg (by decide)]
    exact ih a (fun u hu => h u (by omega))
theorem pp_dn_first {so : Nat → Bool} {k : Nat} (hk : so k = true) (h0 : ∀ u, u < k → so u = false) : ∀ (d : Nat) (a : Nat × Nat × Int32), (pp_dn so (k + 1 + d) a).2.2 = nI k := by
  intro d
  induction d with
  | zero =>
    intro a
    show (pp_dn so (k + 1) a).2.2 = nI k
    unfold pp_dn
    rw [hk, if_pos rfl, pp_dn_none _ _ h0]
  | succ d ih =>
    intro a
    show (pp_dn so (k + 1 + d + 1) a).2.2 = nI k
    unfold pp_dn
    exact ih _
/-! who takes so, in which rows -/
theorem ml_or00 {a : Nat} : nI a ||| (0 : Int32) = nI a := by rw [show (0 : Int32) = nI 0 from rfl, ml_or, Nat.or_zero]
theorem cs_whoseOf_5 {N y r so n : Nat} {f it : Nat → Int32} {X : Nat} (hr : r < 4) (hit : ∀ i, i < n → f i = it i) (hn : n ≤ (pp_runs (s.c.b r) (s.c.L r)).length) (hq : ∀ χ', RX χ' s → Q (nI X) χ') :
    ∀ (d p a C : Nat) (χ : xx_S), C ≤ N → p + d = s.g.1 → RX χ s → xx_ob χ y so n f → pp_it (fun p a => if pp_so s.K s.c p r n it then a ||| 2 ^ p else a) d p a = X → xxw_whoseOf_5 N Q (d + 1) y (nI r) (nI a) (nI p) C χ := by
  intro d
  induction d with
  | zero =>
    intro p a C χ hC hp h hO hX
    have hm' : s.g.1 ≤ 5 := h.1.1
    unfold xxw_whoseOf_5
    rw [show xx_g χ 0 1 = nI s.g.1 from h.1.2.1, nI_leI (by omega) (by omega)]
    exact ⟨fun _ => by rw [show a = X from hX]; exact hq χ h, fun z => absurd (show s.g.1 ≤ p by omega) z⟩
  | succ d ih =>
    intro p a C χ hC hp h hO hX
    have hm' : s.g.1 ≤ 5 := h.1.1
    unfold pp_it at hX
    unfold xxw_whoseOf_5 xxw_whoseOf_35
    rw [show xx_g χ 0 1 = nI s.g.1 from h.1.2.1, nI_leI (by omega) (by omega)]
    refine ⟨fun z => by omega, fun _ => ⟨0, hC, cs_otherwise (c := s.c) h.1 (show p < s.g.1 by omega) hr hO hit hn (fun χ' hc' e' => ?_)⟩⟩
    have h' := RX_same h hc' e'
    have hO' := xx_ob_pool hO e'.2
    rw [nI_1]
    refine ⟨fun z => ?_, fun z => ?_⟩
    · rw [if_pos (pp_so_iff.mpr z)] at hX
      rw [ml_or1 (by omega)]
      exact ih (p + 1) _ C χ' hC (by omega) h' hO' hX
    · rw [if_neg (fun w => z (pp_so_iff.mp w))] at hX
      rw [ml_or00]
      exact ih (p + 1) _ C χ' hC (by omega) h' hO' hX
theorem cs_rowsOf_5 {N y p so n : Nat} {f it : Nat → Int32} {X : Nat} (hp : p < s.g.1) (hit : ∀ i, i < n → f i = it i) (hn40 : n ≤ 40) (hq : ∀ χ', RX χ' s → Q (nI X) χ') :
    ∀ (d r a C : Nat) (χ : xx_S), C ≤ N → r + d = 4 → RX χ s → xx_ob χ y so n f → pp_it (fun r a => if decide (n ≤ (pp_runs (s.c.b r) (s.c.L r)).length) && pp_so s.K s.c p r n it then a ||| 2 ^ r else a) d r a = X → xxw_rowsOf_5 N Q (d + 1) y (nI p) (nI a) (nI r) C χ := by
  intro d
  induction d with
  | zero =>
    intro r a C χ hC hr h hO hX
    unfold xxw_rowsOf_5
    rw [show (4 : Int32) = nI 4 from rfl, nI_leI (by omega) (by omega)]
    exact ⟨fun _ => by rw [show a = X from hX]; exact hq χ h, fun z => absurd (show 4 ≤ r by omega) z⟩
  | succ d ih =>
    intro r a C χ hC hr h hO hX
    have hrow := h.1.2.2.1 r (by omega)
    have hL := hrow.2.2.1
    have hlen : (pp_runs (s.c.b r) (s.c.L r)).length ≤ s.c.L r := pp_rn_len _ _ _ 0 (by omega)
    unfold pp_it at hX
    unfold xxw_rowsOf_5 xxw_rowsOf_33 xxw_rowsOf_60 xxw_rowsOf_61
    rw [show (4 : Int32) = nI 4 from rfl, nI_leI (by omega) (by omega)]
    refine ⟨fun z => by omega, fun _ => cs_tellsRuns (by omega) hrow (fun χ1 e1 _ => ⟨0, hC, cs_sortOf (xx_ob_pool hO (cc_pool_e e1.2)) ⟨0, hC, cs_lengthOf (xx_ob_pool hO (cc_pool_e e1.2)) ?_⟩⟩)⟩
    have h1 := RX_e h (cc_e_3 e1) (by decide)
    have hO1 := xx_ob_pool hO (cc_pool_e e1.2)
    rw [nI_ltI (by omega) (by omega), nI_1, ml_or00]
    have skip : ¬ (decide (n ≤ (pp_runs (s.c.b r) (s.c.L r)).length) && pp_so s.K s.c p r n it) = true → ∀ χ', RX χ' s → xx_ob χ' y so n f → xxw_rowsOf_5 N Q (d + 1) y (nI p) (nI a) (nI (r + 1)) C χ' := fun hno χ' h' hO' => by
      rw [if_neg hno] at hX
      exact ih (r + 1) _ C χ' hC (by omega) h' hO' hX
    refine ⟨fun z => ⟨fun _ => skip (by simp; intro w; omega) χ1 h1 hO1, fun z => absurd rfl z⟩, fun z => ⟨fun z => absurd z (by decide), fun _ => ⟨0, hC, cs_otherwise (c := s.c) h1.1 hp (by omega) hO1 hit (by omega) (fun χ' hc' e' => ?_)⟩⟩⟩
    have h' := RX_same h1 hc' e'
    have hO' := xx_ob_pool hO1 e'.2
    refine ⟨fun z2 => ?_, fun z2 => skip ?_ χ' h' hO'⟩
    · rw [if_pos (by rw [pp_so_iff.mpr z2, decide_eq_true (by omega)]; rfl)] at hX
      rw [ml_or1 (by omega)]
      exact ih (r + 1) _ C χ' hC (by omega) h' hO' hX
    · intro w
      rw [Bool.and_eq_true] at w
      exact z2 (pp_so_iff.mp w.2)
end CSM
