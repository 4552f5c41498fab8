/-! THE CLASS'S METHODS against the abstract state: tells -/
section CSQ
variable {χ : xx_S} {s : pp_S} {Q : Int32 → xx_S → Prop}
theorem xs_tells {N : Nat} {k one row w : Int32} (hN : 6 ≤ N) (h : RX χ s) (hq : ∀ χ', RX χ' s → Q (po_tells s k one row w) χ') : xxw_tells N k one row w χ Q := by
  have hm' : s.g.1 ≤ 5 := h.1.1
  unfold po_tells at hq
  unfold xxw_tells
  refine cs_isSheet (fun k hk e => ml_1 ?_) (fun e => ml_0 ?_)
  · subst e
    rw [pp_ix_some hk (by decide)] at hq
    dsimp only at hq
    refine cs_isOne (n := s.g.1) h.1.2.1 hm' (fun p hp e => ml_1 ?_) (fun e => ml_0 ?_)
    · subst e
      rw [pp_ix_some (n := s.g.1) hp (by omega)] at hq
      dsimp only at hq
      refine cs_isRow (fun r hr e => ml_1 ?_) (fun e => ml_0 ?_)
      · subst e
        rw [pp_ix_some hr (by decide)] at hq
        dsimp only at hq
        refine cs_lt (n := 8) (by decide) (by decide) (fun w hw e => ml_1 ?_) (fun e => ml_0 ?_)
        · subst e
          rw [pp_ix_some hw (by decide)] at hq
          dsimp only at hq
          have hsh := h.2.2.2.2.2.1 k hk
          have hrow := h.1.2.2.1 r hr
          have hL := hrow.2.2.1
          have hlen : (pp_runs (s.c.b r) (s.c.L r)).length ≤ s.c.L r := pp_rn_len _ _ _ 0 (by omega)
          rw [ml_cl (show k < 2 ^ 31 by omega)]
          refine ⟨ml_in hk (by decide), ?_⟩
          cases ek : s.sh k with
          | none =>
            rw [ek] at hsh hq
            exact ⟨fun _ => hq χ h, fun y z => absurd (hsh.symm.trans z) (by simp)⟩
          | some q =>
            obtain ⟨so, n, it⟩ := q
            rw [ek] at hsh hq
            obtain ⟨hso, hn40, a, f, e1, e2, e3, hit0⟩ := hsh
            have hit : ∀ i, i < n → f i = it i := fun i hi => (hit0 i hi).1
            dsimp only at hq
            refine ⟨fun z => absurd (e1.symm.trans z) (by simp), fun y z => ?_⟩
            cases e1.symm.trans z
            have hO : xx_ob χ a so n f := ⟨e2, e3, by omega⟩
            refine ⟨0, by omega, cs_sortOf hO ⟨0, by omega, cs_lengthOf hO (cs_tellsRuns hr hrow (fun χ1 f1 _ => ?_))⟩⟩
            have h1 := RX_e h (cc_e_3 f1) (by decide)
            have hO1 := xx_ob_pool hO (cc_pool_e f1.2)
            dsimp only
            rw [show (nI n ≤ nI (pp_runs (s.c.b r) (s.c.L r)).length) ↔ n ≤ (pp_runs (s.c.b r) (s.c.L r)).length from nI_leI (by omega) (by omega)]
            refine ⟨fun hle => ?_, fun hgt => ?_⟩
            · rw [if_pos hle] at hq
              have ho : ∀ (sb : Nat → Bool) (m : Nat), m ≤ 10 → (pp_dn sb m (0, 0, -1)).1 = pp_or sb m := fun sb m hm => by rw [pp_dn_or m _ hm]; exact Nat.or_zero _
              have hc : ∀ (sb : Nat → Bool) (m : Nat), (pp_dn sb m (0, 0, -1)).2.1 = pp_ct sb m := fun sb m => by rw [pp_dn_ct m _]; rfl
              rcases (show w = 0 ∨ w = 1 ∨ w = 2 ∨ w = 3 ∨ w = 4 ∨ w = 5 ∨ w = 6 ∨ w = 7 by omega) with rfl | rfl | rfl | rfl | rfl | rfl | rfl | rfl
              · refine ⟨fun _ => ⟨0, by omega, cs_otherwise (c := s.c) h1.1 hp hr hO1 hit hle (fun χ' hc' e' => hq χ' (RX_same h1 hc' e'))⟩, fun z => absurd z (by decide), fun z => absurd z (by decide), fun z => absurd z (by decide), fun z => absurd z (by decide), fun z => absurd z (by decide), fun z => absurd z (by decide), fun z => absurd rfl z.1⟩
              · refine ⟨fun z => absurd z (by decide), fun _ => ⟨6, by omega, 7, cs_kindsOf_6 hp hr hit hle (fun χ' h' => ?_) 6 0 0 _ (by decide) (by decide) h1 hO1⟩, fun z => absurd z (by decide), fun z => absurd z (by decide), fun z => absurd z (by decide), fun z => absurd z (by decide), fun z => absurd z (by decide), fun z => absurd rfl z.2.1⟩
                have := hq χ' h'
                rw [show pp_tells s (so, n, it) p r 1 = nI (pp_dn (pp_s1k s p r n it) 6 (0, 0, -1)).1 from rfl, ho _ _ (by decide)] at this
                exact this
              · refine ⟨fun z => absurd z (by decide), fun z => absurd z (by decide), fun _ => ⟨0, by omega, 11, cs_numbersOf_6 hp hr hit hle (fun χ' h' => ?_) 10 0 0 _ (by decide) (by decide) h1 hO1⟩, fun z => absurd z (by decide), fun z => absurd z (by decide), fun z => absurd z (by decide), fun z => absurd z (by decide), fun z => absurd rfl z.2.2.1⟩
                have := hq χ' h'
                rw [show pp_tells s (so, n, it) p r 2 = nI (pp_dn (pp_sb s 1 p r n it) 10 (0, 0, -1)).1 from rfl, ho _ _ (by decide)] at this
                exact this
              · refine ⟨fun z => absurd z (by decide), fun z => absurd z (by decide), fun z => absurd z (by decide), fun _ => ⟨fun z => absurd z (by decide), fun _ => ⟨0, by omega, 101, cs_apronsOf_6c hp hr hit hle (fun χ' h' => ?_) 100 0 0 _ (by decide) (by decide) h1 hO1⟩⟩, fun z => absurd z (by decide), fun z => absurd z (by decide), fun z => absurd z (by decide), fun z => absurd rfl z.2.2.2.1⟩
                have := hq χ' h'
                rw [show pp_tells s (so, n, it) p r 3 = nI (pp_dn (pp_sb s 2 p r n it) 100 (0, 0, -1)).2.1 from rfl, hc] at this
                exact this
              · refine ⟨fun z => absurd z (by decide), fun z => absurd z (by decide), fun z => absurd z (by decide), fun z => absurd z (by decide), fun _ => ⟨fun _ => ⟨0, by omega, 101, cs_apronsOf_6f hp hr hit hle (fun χ' h' => hq χ' h') 100 0 0 0 _ (by decide) (by decide) (fun u hu => absurd hu (Nat.not_lt_zero _)) h1 hO1⟩, fun z => absurd rfl z⟩, fun z => absurd z (by decide), fun z => absurd z (by decide), fun z => absurd rfl z.2.2.2.2.1⟩
              · refine ⟨fun z => absurd z (by decide), fun z => absurd z (by decide), fun z => absurd z (by decide), fun z => absurd z (by decide), fun z => absurd z (by decide), fun _ => ⟨0, by omega, s.t.2.1 + 1, ?_⟩, fun z => absurd z (by decide), fun z => absurd rfl z.2.2.2.2.2.1⟩
                rw [h1.2.2.1.1]
                refine cs_textsOf_12 hp hr hit hle h1.2.2.1.2.1 (fun χ' h' => ?_) s.t.2.1 0 s.t.1 0 _ (Nat.le_refl _) (by omega) h1 hO1
                have := hq χ' h'
                rw [show pp_tells s (so, n, it) p r 5 = nI (pp_dn (pp_s5b s p r n it) s.t.2.1 (0, 0, -1)).1 from rfl, ho _ _ (by have := h1.2.2.1.2.2.2.1; omega)] at this
                exact this
              · exact ⟨fun z => absurd z (by decide), fun z => absurd z (by decide), fun z => absurd z (by decide), fun z => absurd z (by decide), fun z => absurd z (by decide), fun z => absurd z (by decide), fun _ => ⟨0, by omega, s.g.1 + 1, cs_whoseOf_5 hr hit hle (fun χ' h' => hq χ' h') s.g.1 0 0 0 _ (Nat.le_refl _) (by omega) h1 hO1 rfl⟩, fun z => absurd rfl z.2.2.2.2.2.2⟩
              · exact ⟨fun z => absurd z (by decide), fun z => absurd z (by decide), fun z => absurd z (by decide), fun z => absurd z (by decide), fun z => absurd z (by decide), fun z => absurd z (by decide), fun z => absurd z (by decide), fun _ => ⟨0, by omega, 5, cs_rowsOf_5 hp hit hn40 (fun χ' h' => hq χ' h') 4 0 0 0 _ (Nat.le_refl _) (by decide) h1 hO1 rfl⟩⟩
            · rw [if_neg hgt] at hq
              exact hq χ1 h1
        · rw [pp_ix_none (by decide) e] at hq
          exact hq χ h
      · rw [pp_ix_none (by decide) e] at hq
        exact hq χ h
    · rw [pp_ix_none (n := s.g.1) (by omega) e] at hq
      exact hq χ h
  · rw [pp_ix_none (by decide) e] at hq
    exact hq χ h
end CSQ
