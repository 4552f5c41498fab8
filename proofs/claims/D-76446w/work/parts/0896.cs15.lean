/-! THE CLASS'S METHODS against the abstract state, on: kinds that would do -/
section CSP
variable {χ : xx_S} {s : pp_S}
abbrev pp_sw (s : pp_S) (p v n a : Nat) : pp_S := ((s.c.b, s.c.L, pp_up s.c.ap p a, s.c.nt), (s.g.1, pp_up s.g.2.1 p v, pp_up s.g.2.2 p n), s.t, s.tp, s.im, s.sh)
theorem pp_up_id (f : Nat → Nat) (p : Nat) : pp_up f p (f p) = f := by
  funext q
  unfold pp_up
  by_cases e : q = p
  · rw [if_pos e, e]
  · rw [if_neg e]
/-- another gleaner stands at p -/
theorem RX_put {Y : xx_S} {p a k n v : Nat} (h : RX χ s) (hp : p < s.g.1) (hk : k ≤ 5) (hn : n ≤ 9) (hv : v ≤ 999) (hne : ∀ q, q ≠ p → xx_r χ 43 q ≠ some a) (yg : ∀ i q, xx_g Y i q = xx_g χ i q) (yr : ∀ i q, ¬ (i = 43 ∧ q = p) → xx_r Y i q = xx_r χ i q)
    (ya : xx_r Y 43 p = some a) (yL : cc_gr Y χ) (ygl : xx_gl Y a (9 + k) (nI n) (nI v)) : RX Y (pp_sw s p k n v) := by
  obtain ⟨⟨c1, c2, c3, c4, c5, c6, c7⟩, h2, ⟨h3, h4, h5, h6, h7⟩, ⟨h8, h9, h10, h11⟩, h12, h13, h14⟩ := h
  have y0 : xx_r Y 0 0 = xx_r χ 0 0 := yr 0 0 (fun z => absurd z.1 (by decide))
  have yt : ∀ t f, cc_text χ t f → cc_text Y t f := fun t f z => cc_text_gr z yL y0 (yr 44 t (fun z => absurd z.1 (by decide)))
  refine ⟨⟨c1, by rw [yg]; exact c2, fun r hr => ?_, fun q hq => ?_, ?_, ?_, ⟨fun q q2 hq e => ?_, fun q z e => ?_⟩⟩, h2, ⟨?_, h4, ?_, h6, fun t ht => yt t _ (h7 t ht)⟩, ⟨?_, h9, h10, fun i hi => ?_⟩, ?_, fun k hk => cc_sh_gr (h13 k hk) yL (yr _ _ (fun z => by omega)), fun j k b hj hk e1 e2 => ?_⟩
  · obtain ⟨r1, r2, r3⟩ := c3 r hr
    exact ⟨by rw [yg]; exact r1, by rw [yg]; exact r2, r3⟩
  · have hq : q < s.g.1 := hq
    obtain ⟨⟨y, e1, e2⟩, l1, l2, l3⟩ := c4 q hq
    show cc_fo Y q (pp_up s.g.2.1 p k q) (pp_up s.g.2.2 p n q) (pp_up s.c.ap p v q)
    unfold pp_up
    by_cases e : q = p
    · subst e
      rw [if_pos rfl, if_pos rfl, if_pos rfl]
      exact ⟨⟨a, ya, ygl⟩, hk, hn, hv⟩
    · rw [if_neg e, if_neg e, if_neg e]
      exact ⟨⟨y, (yr 43 q (fun z => e z.2)).trans e1, (yL y e2.1).1, (yL y e2.1).2.trans e2.2.1, e2.2.2⟩, l1, l2, l3⟩
  · rw [yg]; exact c5
  · obtain ⟨t, t1, t2, t3⟩ := c6
    exact ⟨t, t1, by rw [yg]; exact t2, yt t _ t3⟩
  · by_cases e1 : q = p <;> by_cases e2 : q2 = p
    · rw [e1, e2]
    · subst e1
      rw [ya, yr 43 q2 (fun z => e2 z.2)] at e
      exact absurd e.symm (hne q2 e2)
    · subst e2
      rw [ya, yr 43 q (fun z => e1 z.2)] at e
      exact absurd e (hne q e1)
    · exact c7.1 q q2 hq (by rw [← yr 43 q (fun z => e1 z.2), ← yr 43 q2 (fun z => e2 z.2)]; exact e)
  · by_cases e2 : q = p
    · subst e2
      rw [ya] at e
      rw [← Option.some.inj e]
      exact ygl.1
    · rw [yr 43 q (fun z => e2 z.2)] at e
      exact (yL z (c7.2 q z e)).1
  · rw [yg]; exact h3
  · rw [yg]; exact h5
  · rw [yg]; exact h8
  · rw [yg]; exact h11 i hi
  · exact cc_im_of h12 (yg 0 35) (fun i hi q => yg i q)
  · rw [yr _ _ (fun z => by omega)] at e1 e2
    exact h14 j k b hj hk e1 e2
theorem xx_ob_gr {x y : xx_S} {z so n : Nat} {f : Nat → Int32} (h : xx_ob y z so n f) (e : cc_gr x y) : xx_ob x z so n f := ⟨(e z h.1).1, (e z h.1).2.trans h.2.1, h.2.2⟩
def pp_s1k (s : pp_S) (p r n : Nat) (it : Nat → Int32) (v : Nat) : Bool := pp_so (pp_tK s p 1 v) s.c p r n it
variable {Q : Int32 → xx_S → Prop}
theorem cs_isSoAs {N p r v y so n : Nat} {f it : Nat → Int32} (hN : 1 ≤ N) (h : RX χ s) (hp : p < s.g.1) (hr : r < 4) (hv : v < 6) (hO : xx_ob χ y so n f) (hit : ∀ i, i < n → f i = it i) (hn : n ≤ (pp_runs (s.c.b r) (s.c.L r)).length)
    (hq : ∀ χ', RX χ' s → xx_ob χ' y so n f → Q (if pp_s1k s p r n it v = true then 1 else 0) χ') : xxw_isSoAs N y (nI p) (nI r) (nI v) χ Q := by
  have hm' : s.g.1 ≤ 5 := h.1.1
  have c7 := h.1.2.2.2.2.2.2
  obtain ⟨⟨y1, e1, g1⟩, b1, b2, b3⟩ := h.1.2.2.2.1 p hp
  unfold xxw_isSoAs xxw_isSoAs_45
  rw [ml_cl (show p < 2 ^ 31 by omega)]
  refine ⟨ml_in (by omega) (by decide), y1, e1, _, _, _, g1, 1, by omega, cs_made (Nat.le_refl _) hv (fun a x hx => ⟨a, rfl, ?_⟩)⟩
  obtain ⟨x0, xg, xr, xL, xa⟩ := hx
  have hay : ¬ y1 = a := fun z => x0 (z ▸ g1.1)
  have g1x : xx_gl x y1 (9 + s.g.2.1 p) (nI (s.g.2.2 p)) (nI (s.c.ap p)) := ⟨(xL y1 g1.1).1, (xL y1 g1.1).2.trans g1.2.1, g1.2.2⟩
  refine ⟨_, _, _, xa, _, _, _, g1x, _, _, _, xa, ?_⟩
  rintro _ rfl
  have hpl : ∀ b, b ∈ xx_L χ → xx_f (xx_ps x a (.inr (9 + v, [.int (nI (s.g.2.2 p)), .int (nI (s.c.ap p))]))) b = xx_f χ b := fun b hb => by
    rw [xx_fps]
    unfold va_up
    rw [if_neg (fun (z : b = a) => x0 (z ▸ hb))]
    exact (xL b hb).2
  have ga : xx_gl (xx_ps x a (.inr (9 + v, [.int (nI (s.g.2.2 p)), .int (nI (s.c.ap p))]))) a (9 + v) (nI (s.g.2.2 p)) (nI (s.c.ap p)) := ⟨xa.1, by rw [xx_fps]; unfold va_up; rw [if_pos rfl], xa.2.2⟩
  refine ⟨a, rfl, ml_in (by omega) (by decide), _, _, _, ga, ?_⟩
  rintro _ rfl
  generalize hY : xx_rs (xx_ps x a (.inr (9 + v, [.int (nI (s.g.2.2 p)), .int (nI (s.c.ap p))]))) 43 p (some a) = Y
  have yr : ∀ i q, ¬ (i = 43 ∧ q = p) → xx_r Y i q = xx_r χ i q := fun i q z => by rw [← hY, xx_rrs, if_neg z]; exact xr i q
  have ya : xx_r Y 43 p = some a := by rw [← hY, xx_rrs, if_pos ⟨rfl, rfl⟩]
  have yL : cc_gr Y χ := fun b hb => ⟨by rw [← hY]; exact (xL b hb).1, by rw [← hY]; exact hpl b hb⟩
  have hY1 : RX Y (pp_sw s p v (s.g.2.2 p) (s.c.ap p)) := RX_put h hp (by omega) b2 b3 (fun q hqp e => x0 (c7.2 q a e)) (fun i q => by rw [← hY]; exact xg i q) yr ya yL (by rw [← hY]; exact ga)
  have hOY := xx_ob_gr hO yL
  refine ⟨0, by omega, cs_otherwise (K := (pp_sw s p v (s.g.2.2 p) (s.c.ap p)).K) (c := (pp_sw s p v (s.g.2.2 p) (s.c.ap p)).c) hY1.1 hp hr hOY hit hn (fun Z hcZ eZ => ?_)⟩
  have hZ := RX_same hY1 hcZ eZ
  have hOZ := xx_ob_pool hOY eZ.2
  have ek : pp_so (pp_sw s p v (s.g.2.2 p) (s.c.ap p)).K (pp_sw s p v (s.g.2.2 p) (s.c.ap p)).c p r n it = pp_s1k s p r n it v := by
    show pp_so (s.g.1, pp_up s.g.2.1 p v, pp_up s.g.2.2 p (s.g.2.2 p), s.t.2.2 s.t.1) (s.c.b, s.c.L, pp_up s.c.ap p (s.c.ap p), s.c.nt) p r n it = _
    rw [pp_up_id, pp_up_id]
    rfl
  have gZ : xx_gl Z y1 (9 + s.g.2.1 p) (nI (s.g.2.2 p)) (nI (s.c.ap p)) := by
    refine ⟨by rw [eZ.2.2.1]; exact (yL y1 g1.1).1, ?_, g1.2.2⟩
    rcases eZ.2.2.2 y1 with w | ⟨_, _, _, _, _, ⟨⟨q, w⟩, _⟩, _⟩
    · exact w.trans ((yL y1 g1.1).2.trans g1.2.1)
    · by_cases e : q = p
      · rw [e, ya] at w
        exact absurd (Option.some.inj w).symm hay
      · rw [yr 43 q (fun z => e z.2)] at w
        exact absurd (c7.1 p q hp (e1.trans w.symm)).symm e
  have fin : ∀ b : Int32, (b = 0 ∨ b = 1) → b = (if pp_s1k s p r n it v = true then 1 else 0) → vp_in (nI p) 5 ∧ ∃ (k15 : Nat) (nk15 ak15 : Int32), xx_gl Z y1 k15 nk15 ak15 ∧ (∀ σ16 : xx_S, σ16 = xx_rs Z 43 p (some y1) → (b = 0 ∨ b = 1) ∧ Q b σ16) := by
    intro b hb heq
    refine ⟨ml_in (by omega) (by decide), _, _, _, gZ, ?_⟩
    rintro _ rfl
    refine ⟨hb, ?_⟩
    have hX := RX_put (Y := xx_rs Z 43 p (some y1)) (a := y1) (p := p) hZ hp b1 b2 b3 (fun q hqp w => ?_) (fun _ _ => rfl) (fun i q z => by rw [xx_rrs, if_neg z]) (by rw [xx_rrs, if_pos ⟨rfl, rfl⟩]) (fun _ hb => ⟨hb, rfl⟩) gZ
    · have e : pp_sw (pp_sw s p v (s.g.2.2 p) (s.c.ap p)) p (s.g.2.1 p) (s.g.2.2 p) (s.c.ap p) = s := by
        show ((s.c.b, s.c.L, pp_up (pp_up s.c.ap p (s.c.ap p)) p (s.c.ap p), s.c.nt), (s.g.1, pp_up (pp_up s.g.2.1 p v) p (s.g.2.1 p), pp_up (pp_up s.g.2.2 p (s.g.2.2 p)) p (s.g.2.2 p)), s.t, s.tp, s.im, s.sh) = s
        rw [pp_up_up, pp_up_up, pp_up_up]
      rw [e] at hX
      rw [heq]
      exact hq _ hX ⟨hOZ.1, hOZ.2.1, hOZ.2.2⟩
    · rw [eZ.2.1, yr 43 q (fun z => hqp z.2)] at w
      exact hqp (c7.1 p q hp (e1.trans w.symm)).symm
  refine ⟨fun z => fin 1 (Or.inr rfl) ?_, fun z => fin 0 (Or.inl rfl) ?_⟩
  · rw [← ek, pp_so_iff.mpr z, if_pos rfl]
  · rw [← ek, if_neg (fun w => z (pp_so_iff.mp w))]
theorem cs_kindsOf_6 {N p r y so n : Nat} {f it : Nat → Int32} (hp : p < s.g.1) (hr : r < 4) (hit : ∀ i, i < n → f i = it i) (hn : n ≤ (pp_runs (s.c.b r) (s.c.L r)).length) (hq : ∀ χ', RX χ' s → Q (nI (pp_or (pp_s1k s p r n it) 6)) χ') :
    ∀ (d k C : Nat) (χ : xx_S), C + d ≤ N → k + d = 6 → RX χ s → xx_ob χ y so n f → xxw_kindsOf_6 N Q (d + 1) y (nI p) (nI r) (nI (pp_or (pp_s1k s p r n it) k)) (nI k) C χ := by
  intro d
  induction d with
  | zero =>
    intro k C χ hC hk h hO
    obtain rfl : k = 6 := by omega
    unfold xxw_kindsOf_6
    exact ⟨fun _ => hq χ h, fun z => absurd (by decide) z⟩
  | succ d ih =>
    intro k C χ hC hk h hO
    unfold xxw_kindsOf_6 xxw_kindsOf_35
    rw [show (6 : Int32) ≤ nI k ↔ 6 ≤ k from nI_leI (a := 6) (by decide) (by omega)]
    refine ⟨fun z => by omega, fun _ => ⟨1, by omega, cs_isSoAs (Nat.le_refl _) h hp hr (by omega) hO hit hn (fun χ' h' hO' => ?_)⟩⟩
    have hnext := ih (k + 1) (C + 1) χ' (by omega) (by omega) h' hO'
    rw [nI_1]
    unfold pp_or at hnext
    cases e : pp_s1k s p r n it k with
    | true =>
      rw [e, if_pos rfl] at hnext
      refine ⟨fun z => absurd z (by decide), fun _ => ?_⟩
      rw [ml_or1 (by omega)]
      exact hnext
    | false =>
      rw [e, if_neg (by decide), Nat.or_zero] at hnext
      refine ⟨fun _ => ?_, fun z => absurd rfl z⟩
      rw [ml_or00]
      exact hnext
end CSP
