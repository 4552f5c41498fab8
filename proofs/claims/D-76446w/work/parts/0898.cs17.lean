/-! THE CLASS'S METHODS against the abstract state: copy -/
section CSR
variable {χ x : xx_S} {s : pp_S} {y : Nat}
/-- the pool is as it was but for the array y -/
def cc_ex (x χ : xx_S) (y : Nat) : Prop := xx_L x = xx_L χ ∧ xx_r x = xx_r χ ∧ (∀ b, b ≠ y → xx_f x b = xx_f χ b) ∧ ∃ e : ClassId × vp_A, xx_f χ y = .inl e ∧ e.1 ≠ 7
theorem cc_ex_r {b : Nat} {e : Nat × List Value} (h : cc_ex x χ y) (hb : xx_f χ b = .inr e) : xx_f x b = .inr e := by
  obtain ⟨_, _, h3, e0, h4, _⟩ := h
  rw [h3 b (fun z => by rw [z, h4] at hb; cases hb)]
  exact hb
theorem cc_nd_ex (h : cc_ex x χ y) : ∀ (d q : Nat) (F : pp_F), xx_nd χ d q F → xx_nd x d q F := by
  intro d
  induction d with
  | zero => intro q F z; exact z.elim
  | succ d ih =>
    intro q F z
    obtain ⟨z1, z2⟩ := z
    refine ⟨by rw [h.1]; exact z1, ?_⟩
    rcases z2 with ⟨v, e, g⟩ | ⟨w, hw, e, g⟩ | ⟨a, f, e, n, g⟩ | ⟨a, f, e, n, g⟩ | ⟨s, a, b, f, f2, e, n1, n2, g⟩
    · exact Or.inl ⟨v, cc_ex_r h e, g⟩
    · refine Or.inr (Or.inl ⟨w, hw, ?_, g⟩)
      rw [h.2.1]
      exact cc_ex_r h e
    · exact Or.inr (Or.inr (Or.inl ⟨a, f, cc_ex_r h e, ih a f n, g⟩))
    · exact Or.inr (Or.inr (Or.inr (Or.inl ⟨a, f, cc_ex_r h e, ih a f n, g⟩)))
    · exact Or.inr (Or.inr (Or.inr (Or.inr ⟨s, a, b, f, f2, cc_ex_r h e, ih a f n1, ih b f2 n2, g⟩)))
theorem cc_text_ex {t : Nat} {F : Nat → pp_F} (h : cc_ex x χ y) (ht : cc_text χ t F) : cc_text x t F := by
  obtain ⟨a, fn, h1, h2, h3, h4⟩ := ht
  obtain ⟨_, _, g3, e0, g4, g5⟩ := id h
  refine ⟨a, fn, by rw [h.2.1]; exact h1, by rw [h.1]; exact h2, ?_, fun k hk => (h4 k hk).elim fun z hz => ⟨z, hz.1, cc_nd_ex h _ _ _ hz.2⟩⟩
  rw [g3 a (fun z => by rw [z, g4] at h3; cases h3; exact g5 rfl)]
  exact h3
theorem RX_row {k so n : Nat} {f0 f' it' : Nat → Int32} (h : RX χ s) (hk : k < 4) (hr : xx_r χ (39 + k) 0 = some y) (hO : xx_ob χ y so n f0) (hn : n ≤ 40) (hit : ∀ i, i < n → f' i = it' i ∧ cc_fit so (f' i)) :
    RX (xx_ps χ y (.inl (cc_cls so, n, .inl f'))) (s.c, s.g, s.t, s.tp, s.im, pp_sup s.sh k (some (so, n, it'))) := by
  have hso := hO.2.2
  have h7 : cc_cls so ≠ 7 := by
    rcases (show so = 0 ∨ so = 1 ∨ so = 2 by omega) with e | e | e <;> subst e <;> decide
  generalize hX : xx_ps χ y (.inl (cc_cls so, n, .inl f')) = X
  have hx : cc_ex X χ y := by
    rw [← hX]
    refine ⟨rfl, rfl, fun b hb => ?_, _, hO.2.1, h7⟩
    rw [xx_fps]
    unfold va_up
    rw [if_neg hb]
  have hXy : xx_f X y = .inl (cc_cls so, n, .inl f') := by
    rw [← hX, xx_fps]
    unfold va_up
    rw [if_pos rfl]
  have yg : ∀ i q, xx_g X i q = xx_g χ i q := fun i q => by rw [← hX]; rfl
  have yr : xx_r X = xx_r χ := hx.2.1
  obtain ⟨⟨c1, c2, c3, c4, c5, c6, c7⟩, h2, ⟨h3, h4, h5, h6, h7'⟩, ⟨h8, h9, h10, h11⟩, h12, h13, h14⟩ := h
  refine ⟨⟨c1, by rw [yg]; exact c2, fun r hr => ?_, fun q hq => ?_, by rw [yg]; exact c5, ?_, by rw [show cc_one X = cc_one χ from by unfold cc_one; rw [yr, hx.1]]; exact c7⟩, h2, ⟨by rw [yg]; exact h3, h4, by rw [yg]; exact h5, h6, fun t ht => cc_text_ex hx (h7' t ht)⟩, ⟨by rw [yg]; exact h8, h9, h10, fun i hi => by rw [yg]; exact h11 i hi⟩, cc_im_of h12 (yg 0 35) (fun i hi q => yg i q), fun j hj => ?_, by unfold cc_two; rw [yr]; exact h14⟩
  · obtain ⟨r1, r2, r3⟩ := c3 r hr
    exact ⟨by rw [yg]; exact r1, by rw [yg]; exact r2, r3⟩
  · obtain ⟨⟨z, z1, z2⟩, z3⟩ := c4 q hq
    exact ⟨⟨z, by rw [yr]; exact z1, by rw [hx.1]; exact z2.1, cc_ex_r hx z2.2.1, z2.2.2⟩, z3⟩
  · obtain ⟨t, t1, t2, t3⟩ := c6
    exact ⟨t, t1, by rw [yg]; exact t2, cc_text_ex hx t3⟩
  · show cc_sh X j (pp_sup s.sh k (some (so, n, it')) j)
    unfold pp_sup
    by_cases e : j = k
    · rw [if_pos e, e]
      exact ⟨by omega, hn, y, f', by rw [yr]; exact hr, by rw [hx.1]; exact hO.1, hXy, hit⟩
    · rw [if_neg e]
      have hj' := h13 j hj
      cases ek : s.sh j with
      | none => rw [ek] at hj'; unfold cc_sh at hj' ⊢; rw [yr]; exact hj'
      | some q =>
        rw [ek] at hj'
        obtain ⟨so2, n2, it2⟩ := q
        obtain ⟨a1, a2, a, f, a3, a4, a5, a6⟩ := hj'
        exact ⟨a1, a2, a, f, by rw [yr]; exact a3, by rw [hx.1]; exact a4, by rw [hx.2.2.1 a (fun z => e (h14 j k y hj hk (z ▸ a3) hr))]; exact a5, a6⟩
variable {Q : Int32 → xx_S → Prop}
theorem xs_copy {N : Nat} {k i k2 j n : Int32} (h : RX χ s) (hq : ∀ χ', RX χ' (po_copy s k i k2 j n).2 → Q (po_copy s k i k2 j n).1 χ') : xxw_copy N k i k2 j n χ Q := by
  unfold po_copy at hq
  unfold xxw_copy
  have z0 : ∀ x : Int32, x < 0 ↔ x.toInt < 0 := fun x => by rw [Int32.lt_iff_toInt_lt]; rfl
  have hcl : ∀ x : Int32, x.toNatClampNeg = x.toInt.toNat := fun x => rfl
  refine cs_isSheet (fun k hk e => ml_1 ?_) (fun e => ml_0 ?_)
  · subst e
    rw [pp_ix_some hk (by decide)] at hq
    dsimp only at hq
    refine cs_isSheet (fun k2 hk2 e => ml_1 ?_) (fun e => ml_0 ?_)
    · subst e
      rw [pp_ix_some hk2 (by decide)] at hq
      dsimp only at hq
      have hs1 := h.2.2.2.2.2.1 k hk
      have hs2 := h.2.2.2.2.2.1 k2 hk2
      rw [ml_cl (show k < 2 ^ 31 by omega), ml_cl (show k2 < 2 ^ 31 by omega)]
      refine ⟨ml_in hk (by decide), ?_⟩
      cases ek : s.sh k with
      | none =>
        rw [ek] at hs1 hq
        exact ⟨fun _ => ⟨ml_in hk2 (by decide), fun _ => hq χ h, fun _ _ => hq χ h⟩, fun y z => absurd (hs1.symm.trans z) (by simp)⟩
      | some x =>
        rw [ek] at hs1 hq
        obtain ⟨so, a, f⟩ := x
        obtain ⟨p1, p2, a1, f1, p3, p4, p5, p6⟩ := hs1
        dsimp only at hq
        refine ⟨fun z => absurd (p3.symm.trans z) (by simp), fun y z => ?_⟩
        cases p3.symm.trans z
        refine ⟨ml_in hk2 (by decide), ?_⟩
        cases ek2 : s.sh k2 with
        | none =>
          rw [ek2] at hs2 hq
          exact ⟨fun _ => hq χ h, fun y z => absurd (hs2.symm.trans z) (by simp)⟩
        | some x2 =>
          rw [ek2] at hs2 hq
          obtain ⟨so2, b, g⟩ := x2
          obtain ⟨r1, r2, b1, g1, r3, r4, r5, r6⟩ := hs2
          dsimp only at hq
          refine ⟨fun z => absurd (r3.symm.trans z) (by simp), fun y z => ?_⟩
          cases r3.symm.trans z
          have hO1 : xx_ob χ a1 so a f1 := ⟨p4, p5, by omega⟩
          have hO2 : xx_ob χ b1 so2 b g1 := ⟨r4, r5, by omega⟩
          refine ⟨0, by omega, cs_sortOf hO1 ⟨0, by omega, cs_sortOf hO2 ?_⟩⟩
          try dsimp only
          rw [show nI so = nI so2 ↔ so = so2 from nI_eq (by omega) (by omega)]
          refine ⟨fun es => ?_, fun es => ?_⟩
          · subst es
            rw [if_pos rfl] at hq
            refine ⟨0, by omega, cs_sortOf hO1 ⟨0, by omega, cs_lengthOf hO1 ⟨0, by omega, cs_sortOf hO2 ⟨0, by omega, cs_lengthOf hO2 ?_⟩⟩⟩⟩
            try dsimp only
            rw [z0, z0, z0, Int32.lt_iff_toInt_lt, Int32.lt_iff_toInt_lt, nI_toInt (show a < 2 ^ 31 by omega), nI_toInt (show b < 2 ^ 31 by omega)]
            have no : ¬ (0 ≤ n.toInt ∧ 0 ≤ i.toInt ∧ 0 ≤ j.toInt ∧ i.toInt + n.toInt ≤ a ∧ j.toInt + n.toInt ≤ b) → Q (-12) χ := fun hno => by
              rw [if_neg hno] at hq
              exact hq χ h
            have hn2 := n.toInt_lt
            refine ⟨fun z => no (by omega), fun c1 => ⟨fun z => no (by omega), fun c2 => ⟨fun z => no (by omega), fun c3 => ⟨fun z => no (by omega), fun c4 => ⟨fun z => no (by omega), fun c5 => ?_⟩⟩⟩⟩⟩
            have t1 : (nI a - i).toInt = (a : Int) - i.toInt := by rw [ml_subT (by rw [nI_toInt (by omega)]; omega) (by rw [nI_toInt (by omega)]; omega), nI_toInt (by omega)]
            have t2 : (nI b - j).toInt = (b : Int) - j.toInt := by rw [ml_subT (by rw [nI_toInt (by omega)]; omega) (by rw [nI_toInt (by omega)]; omega), nI_toInt (by omega)]
            rw [Int32.lt_iff_toInt_lt, Int32.le_iff_toInt_le, t1, t2]
            refine ⟨fun z => no (by omega), fun c6 => ⟨fun c7 => ?_, fun z => no (by omega)⟩⟩
            rw [if_pos (by omega)] at hq
            refine ⟨so, a, f1, b, g1, hO1, hO2, c2, c3, c1, by rw [hcl, hcl]; omega, by rw [hcl, hcl]; omega, fun q hq' => (p6 _ (by rw [hcl] at hq' ⊢; omega)).2, ?_⟩
            rintro _ rfl
            refine hq _ (RX_row h hk2 r3 hO2 r2 (fun q hq' => ?_))
            rw [hcl, hcl, hcl]
            unfold va_cpy pp_cpy
            by_cases e : j.toInt.toNat ≤ q ∧ q < j.toInt.toNat + n.toInt.toNat
            · rw [if_pos e, if_pos e]
              exact p6 _ (by omega)
            · rw [if_neg e, if_neg e]
              exact r6 q hq'
          · rw [if_neg es] at hq
            exact hq χ h
    · rw [pp_ix_none (by decide) e] at hq
      exact hq χ h
  · rw [pp_ix_none (by decide) e] at hq
    exact hq χ h
end CSR
