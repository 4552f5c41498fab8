/-! THE CLASS'S METHODS against the abstract state, on: texts that would do -/
section CSO
variable {χ : xx_S} {s : pp_S} {Q : Int32 → xx_S → Prop}
/-- another text at hand -/
abbrev pp_st (s : pp_S) (t : Nat) : pp_S := (s.c, s.g, (t, s.t.2), s.tp, s.im, s.sh)
theorem RX_rule {t : Nat} (h : RX χ s) (ht : t < s.t.2.1) : RX (xx_s χ 0 24 (nI t)) (pp_st s t) := by
  have h6 := h.2.2.1.2.2.2.1
  obtain ⟨⟨c1, c2, c3, c4, c5, c6, c7⟩, h2, ⟨_, _, h5, _, h7⟩, ⟨h8, h9, h10, h11⟩, h12, h13, h14⟩ := h
  have hp : cc_pool (xx_s χ 0 24 (nI t)) χ := cc_pool_e rfl
  refine ⟨⟨c1, by rw [xx_ot (by decide)]; exact c2, fun r hr => ?_, c4, by rw [xx_ot (by decide)]; exact c5, ⟨t, by omega, xx_me, cc_text_pool (h7 t ht) hp⟩, c7⟩, h2, ⟨xx_me, ht, by rw [xx_ot (by decide)]; exact h5, h6, fun t ht => cc_text_pool (h7 t ht) hp⟩, ⟨by rw [xx_ot (by decide)]; exact h8, h9, h10, fun i hi => by rw [xx_ro (show (30 : Nat) ≠ 0 by decide)]; exact h11 i hi⟩,
    cc_im_of h12 (xx_ot (by decide)) (fun i hi k => xx_ro ((show ∀ i, i ∈ [7, 26, 27, 28, 29] → i ≠ 0 by decide) i hi)), fun k hk => cc_sh_of (h13 k hk) hp, h14⟩
  exact ⟨by rw [xx_ro (show (1 : Nat) ≠ 0 by decide)]; exact (c3 r hr).1, by rw [xx_ro (show (2 : Nat) ≠ 0 by decide)]; exact (c3 r hr).2.1, (c3 r hr).2.2⟩
def pp_s5b (s : pp_S) (p r n : Nat) (it : Nat → Int32) (v : Nat) : Bool := pp_so (pp_st s v).K s.c p r n it
theorem cs_textsOf_12 {N p r y so n : Nat} {f it : Nat → Int32} (hp : p < s.g.1) (hr : r < 4) (hit : ∀ i, i < n → f i = it i) (hn : n ≤ (pp_runs (s.c.b r) (s.c.L r)).length) (hrule : s.t.1 < s.t.2.1) (hq : ∀ χ', RX χ' s → Q (nI (pp_or (pp_s5b s p r n it) s.t.2.1)) χ') :
    ∀ (d k t C : Nat) (χ : xx_S), C ≤ N → k + d = s.t.2.1 → RX χ (pp_st s t) → xx_ob χ y so n f → xxw_textsOf_12 N Q (d + 1) y (nI p) (nI r) (nI s.t.1) (nI (pp_or (pp_s5b s p r n it) k)) (nI k) C χ := by
  intro d
  induction d with
  | zero =>
    intro k t C χ hC hk h hO
    have h5 : xx_g χ 0 13 = nI s.t.2.1 := h.2.2.1.2.2.1
    have h6 : s.t.2.1 ≤ 6 := h.2.2.1.2.2.2.1
    obtain rfl : k = s.t.2.1 := by omega
    unfold xxw_textsOf_12
    rw [h5, nI_leI (by omega) (by omega)]
    refine ⟨fun _ => ?_, fun z => absurd (Nat.le_refl _) z⟩
    rintro _ rfl
    exact hq _ (RX_rule (s := pp_st s t) h hrule)
  | succ d ih =>
    intro k t C χ hC hk h hO
    have h5 : xx_g χ 0 13 = nI s.t.2.1 := h.2.2.1.2.2.1
    have h6 : s.t.2.1 ≤ 6 := h.2.2.1.2.2.2.1
    unfold xxw_textsOf_12 xxw_textsOf_48
    rw [h5, nI_leI (by omega) (by omega)]
    refine ⟨fun z => by omega, fun _ => ?_⟩
    rintro _ rfl
    have h1 : RX (xx_s χ 0 24 (nI k)) (pp_st s k) := RX_rule (s := pp_st s t) h (show k < s.t.2.1 by omega)
    refine ⟨0, hC, cs_otherwise (K := (pp_st s k).K) (c := s.c) h1.1 hp hr (xx_ob_pool hO (cc_pool_e rfl)) hit hn (fun χ' hc' e' => ?_)⟩
    have hnext := ih (k + 1) k C χ' hC (by omega) (RX_same h1 hc' e') (xx_ob_pool (xx_ob_pool hO (cc_pool_e rfl)) e'.2)
    rw [nI_1]
    unfold pp_or at hnext
    refine ⟨fun z => ?_, fun z => ?_⟩
    · rw [show pp_s5b s p r n it k = true from pp_so_iff.mpr z, if_pos rfl] at hnext
      rw [ml_or1 (by omega)]
      exact hnext
    · have e : pp_s5b s p r n it k = false := by
        cases e : pp_s5b s p r n it k with
        | false => rfl
        | true => exact absurd (pp_so_iff.mp e) z
      rw [e, if_neg (by decide), Nat.or_zero] at hnext
      rw [ml_or00]
      exact hnext
end CSO
