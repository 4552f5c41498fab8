/-! THE CLASS'S METHODS against the abstract state, on: what a sheet tells -/
section CSL
variable {χ : xx_S} {s : pp_S} {Q : Int32 → xx_S → Prop}
theorem xx_ob_pool {x y : xx_S} {z so n : Nat} {f : Nat → Int32} (h : xx_ob y z so n f) (e : cc_pool x y) : xx_ob x z so n f := by
  obtain ⟨h1, h2, h3⟩ := h
  refine ⟨by rw [e.2.1]; exact h1, ?_, h3⟩
  rcases e.2.2 z with g | ⟨k, n, n', b, b', g1, g2, g3, g4⟩
  · exact g.trans h2
  · rw [h2] at g3; cases g3
theorem cs_sortOf {N y so n : Nat} {f : Nat → Int32} (hO : xx_ob χ y so n f) (hq : Q (nI so) χ) : xxw_sortOf N y χ Q := by
  have h3 := hO.2.2
  refine ⟨so, n, f, hO, ?_⟩
  rcases (show so = 0 ∨ so = 1 ∨ so = 2 by omega) with e | e | e <;> subst e
  · exact ⟨fun z => absurd z (by decide), fun _ => hq⟩
  · exact ⟨fun _ => ⟨1, n, f, hO, fun z => absurd z (by decide), fun _ => hq⟩, fun z => absurd (by decide) z⟩
  · exact ⟨fun _ => ⟨2, n, f, hO, fun _ => hq, fun z => absurd (by decide) z⟩, fun z => absurd (by decide) z⟩
theorem cs_lengthOf {N y so n : Nat} {f : Nat → Int32} (hO : xx_ob χ y so n f) (hq : Q (nI n) χ) : xxw_lengthOfN N y (nI so) χ Q := by
  have h3 := hO.2.2
  unfold xxw_lengthOfN
  rcases (show so = 0 ∨ so = 1 ∨ so = 2 by omega) with e | e | e <;> subst e
  · exact ⟨fun _ => ⟨n, f, hO, n, f, hO, hq⟩, fun z => absurd z (by decide), fun z => absurd (by decide) z.1⟩
  · exact ⟨fun z => absurd z (by decide), fun _ => ⟨n, f, hO, n, f, hO, hq⟩, fun z => absurd (by decide) z.2⟩
  · exact ⟨fun z => absurd z (by decide), fun z => absurd z (by decide), fun _ => ⟨n, f, hO, n, f, hO, hq⟩⟩
theorem cs_asksPlaceN {Q : xx_S → Prop} {N i n : Nat} (hi : i < n) (hn : n < 2 ^ 31) (hq : Q χ) : xxw_asksPlaceN N (nI i) (nI n) χ Q :=
  ⟨fun z => absurd z (nI_pos (by omega)), fun _ => ⟨fun _ => hq, fun z => absurd ((nI_ltI (by omega) hn).mpr hi) z⟩⟩
theorem cs_itemN {N y so n i : Nat} {f : Nat → Int32} (hO : xx_ob χ y so n f) (hi : i < n) (hn : n < 2 ^ 31) (hq : Q (f i) χ) : xxw_itemN N y (nI so) (nI i) χ Q := by
  have h3 := hO.2.2
  have fin : Q (f (nI i).toNatClampNeg) χ := by rw [ml_cl (by omega)]; exact hq
  have hin : vp_in (nI i) n := ml_in hi hn
  unfold xxw_itemN
  rcases (show so = 0 ∨ so = 1 ∨ so = 2 by omega) with e | e | e <;> subst e
  · exact ⟨fun _ => ⟨n, f, hO, n, f, hO, 0, by omega, cs_asksPlaceN hi hn ⟨n, f, hO, n, f, hO, hin, fin⟩⟩, fun z => absurd z (by decide), fun z => absurd (by decide) z.1⟩
  · exact ⟨fun z => absurd z (by decide), fun _ => ⟨n, f, hO, n, f, hO, 0, by omega, cs_asksPlaceN hi hn ⟨n, f, hO, n, f, hO, hin, fin⟩⟩, fun z => absurd (by decide) z.2⟩
  · exact ⟨fun z => absurd z (by decide), fun z => absurd z (by decide), fun _ => ⟨n, f, hO, n, f, hO, 0, by omega, cs_asksPlaceN hi hn ⟨n, f, hO, n, f, hO, hin, fin⟩⟩⟩
theorem cs_otherwise_15 {N y so n : Nat} {f it : Nat → Int32} {l : List Int} {X : Int32} (hO : xx_ob χ y so n f) (hit : ∀ i, i < n → f i = it i) (hn : n ≤ 24) (ht : ∀ j, j < n → xx_g χ 4 j = Int32.ofInt (l.getD j 0)) (hq : ∀ v, v = X → xxw_laysBack 0 χ (fun σ => Q v σ)) :
    ∀ (d j C : Nat), C ≤ N → j + d = n → pp_oth l it d j = X → xxw_otherwise_15 N Q (d + 1) y (nI j) C χ := by
  intro d
  induction d with
  | zero =>
    intro j C hC hj hX
    unfold xxw_otherwise_15
    refine ⟨0, hC, cs_sortOf hO ⟨0, hC, cs_lengthOf hO ⟨fun _ => hq _ hX, fun z => absurd ((nI_leI (by omega) (by omega)).mpr (show n ≤ j by omega)) z⟩⟩⟩
  | succ d ih =>
    intro j C hC hj hX
    unfold pp_oth at hX
    unfold xxw_otherwise_15
    refine ⟨0, hC, cs_sortOf hO ⟨0, hC, cs_lengthOf hO ⟨fun z => absurd ((nI_leI (by omega) (by omega)).mp z) (by omega), fun _ => ⟨0, hC, cs_sortOf hO ⟨0, hC, cs_itemN hO (show j < n by omega) (by omega) ⟨ml_in (by omega) (by decide), ?_⟩⟩⟩⟩⟩⟩
    rw [ml_cl (by omega), ht j (by omega), hit j (by omega), nI_1]
    refine ⟨fun e => ?_, fun e => ?_⟩
    · rw [if_pos e.symm] at hX
      exact ih (j + 1) C hC (by omega) hX
    · rw [if_neg (fun z => e z.symm)] at hX
      exact hq _ hX
theorem cs_otherwise {K : pp_K} {c : pp_C} {N p r y so n : Nat} {f it : Nat → Int32} (hc : cc_C χ K c) (hp : p < K.many) (hr : r < 4) (hO : xx_ob χ y so n f) (hit : ∀ i, i < n → f i = it i) (hn : n ≤ (pp_runs (c.b r) (c.L r)).length)
    (hq : ∀ χ', cc_C χ' K c → cc_ft χ' χ → Q (pp_oth (pp_gr K c p r).2 it n 0) χ') : xxw_otherwise N y (nI p) (nI r) χ Q := by
  have hrow := hc.2.2.1 r hr
  have hL := hrow.2.2.1
  have hlen : (pp_runs (c.b r) (c.L r)).length ≤ c.L r := pp_rn_len _ _ _ 0 (by omega)
  unfold xxw_otherwise
  refine cs_keeps (fr := 0) (by decide) hc (fun χ1 k1 f1 => cs_gleansC (cc_C_fk hc f1 (by decide)) hp hr (fun χ2 hc2 tk2 f2 _ => ⟨n + 1, cs_otherwise_15 (l := (pp_gr K c p r).2) (xx_ob_pool hO (cc_pool_tr f2.2 (cc_pool_e f1.2))) hit (by omega) (fun j hj => ?_) (fun v hv => ?_) n 0 0 (Nat.zero_le _) (by omega) rfl⟩))
  · have hlt : j < (pp_gr K c p r).2.length := by
      unfold pp_gr
      rw [pp_gl_len]
      omega
    refine tk2 j _ ?_
    rw [List.getD_eq_getElem?_getD, List.getElem?_eq_getElem hlt]
    rfl
  · subst hv
    exact cs_back0 hc k1 f1 hc2 f2 (fun χ' h1 h2 _ _ => hq χ' h1 h2)
end CSL
