/-! THE CLASS'S METHODS against the abstract state, on: what makes gleaners -/
section CSK
variable {χ : xx_S} {s : pp_S}
/-- what was in the pool is there as it was -/
def cc_gr (x y : xx_S) : Prop := ∀ a, a ∈ xx_L y → a ∈ xx_L x ∧ xx_f x a = xx_f y a
theorem cc_nd_gr {x y : xx_S} (h : cc_gr x y) (h0 : xx_r x 0 0 = xx_r y 0 0) : ∀ (d q : Nat) (F : pp_F), xx_nd y d q F → xx_nd x d q F := by
  intro d
  induction d with
  | zero => intro q F z; exact z.elim
  | succ d ih =>
    intro q F z
    obtain ⟨z1, z2⟩ := z
    obtain ⟨m1, m2⟩ := h q z1
    refine ⟨m1, ?_⟩
    rcases z2 with ⟨v, e, g⟩ | ⟨w, hw, e, g⟩ | ⟨a, f, e, n, g⟩ | ⟨a, f, e, n, g⟩ | ⟨s, a, b, f, f2, e, n1, n2, g⟩
    · exact Or.inl ⟨v, m2.trans e, g⟩
    · refine Or.inr (Or.inl ⟨w, hw, ?_, g⟩)
      rw [h0]
      exact m2.trans e
    · exact Or.inr (Or.inr (Or.inl ⟨a, f, m2.trans e, ih a f n, g⟩))
    · exact Or.inr (Or.inr (Or.inr (Or.inl ⟨a, f, m2.trans e, ih a f n, g⟩)))
    · exact Or.inr (Or.inr (Or.inr (Or.inr ⟨s, a, b, f, f2, m2.trans e, ih a f n1, ih b f2 n2, g⟩)))
theorem cc_text_gr {x y : xx_S} {t : Nat} {f : Nat → pp_F} (h : cc_text y t f) (e : cc_gr x y) (h0 : xx_r x 0 0 = xx_r y 0 0) (h44 : xx_r x 44 t = xx_r y 44 t) : cc_text x t f := by
  obtain ⟨a, fn, h1, h2, h3, h4⟩ := h
  obtain ⟨m1, m2⟩ := e a h2
  exact ⟨a, fn, h44.trans h1, m1, m2.trans h3, fun k hk => (h4 k hk).elim fun z hz => ⟨z, hz.1, cc_nd_gr e h0 _ _ _ hz.2⟩⟩
theorem cc_sh_gr {x y : xx_S} {k : Nat} {o : Option (Nat × Nat × (Nat → Int32))} (h : cc_sh y k o) (e : cc_gr x y) (hr : xx_r x (39 + k) 0 = xx_r y (39 + k) 0) : cc_sh x k o := by
  cases o with
  | none => unfold cc_sh at h ⊢; rw [hr]; exact h
  | some q =>
    obtain ⟨so, n, it⟩ := q
    obtain ⟨h1, h2, a, f, h3, h4, h5, h6⟩ := h
    obtain ⟨m1, m2⟩ := e a h4
    exact ⟨h1, h2, a, f, hr.trans h3, m1, m2.trans h5, h6⟩
theorem cc_im_mo {m m' tc : Nat} {o : Option (Nat × pp_C × (Nat → Nat) × Nat)} (h : cc_im χ m tc o) (hm : m ≤ m') : cc_im χ m' tc o := by
  cases o with
  | none => exact h
  | some q =>
    obtain ⟨m1, c, num, ru⟩ := q
    obtain ⟨h1, h2, h3⟩ := h
    exact ⟨h1, Nat.le_trans h2 hm, h3⟩
/-- one gleaner more in the pool -/
def cc_mk (x y : xx_S) (a k : Nat) (n : Int32) : Prop := a ∉ xx_L y ∧ (∀ i q, xx_g x i q = xx_g y i q) ∧ (∀ i q, xx_r x i q = xx_r y i q) ∧ cc_gr x y ∧ xx_gl x a k n 0
theorem cs_init {Q : xx_S → Prop} {a k : Nat} {n : Int32} (hk : 9 ≤ k ∧ k ≤ 14) (ha : a ∉ xx_L χ) (hq : ∀ χ', cc_mk χ' χ a k n → Q χ') : xxw_G9_init a n (xx_nw χ a (.inr (k, [.int 0, .int 0]))) Q := by
  have hm : a ∈ xx_L (xx_nw χ a (.inr (k, [.int 0, .int 0]))) := by rw [xx_Lnw]; simp
  refine ⟨k, 0, 0, ⟨hm, by rw [xx_fnw]; unfold va_up; rw [if_pos rfl], hk.1, hk.2⟩, ?_⟩
  rintro _ rfl
  refine hq _ ⟨ha, fun _ _ => rfl, fun _ _ => rfl, fun b hb => ⟨?_, ?_⟩, hm, ?_, hk.1, hk.2⟩
  · rw [xx_Lps, xx_Lnw]; simp [hb]
  · have hb : ¬ b = a := fun z => ha (z ▸ hb)
    rw [xx_fps, xx_fnw]
    unfold va_up
    rw [if_neg hb, if_neg hb]
  · rw [xx_fps]
    unfold va_up
    rw [if_pos rfl]
theorem cs_made {Q : Option Nat → xx_S → Prop} {N k : Nat} {n : Int32} (hN : 1 ≤ N) (hk : k < 6) (hq : ∀ a χ', cc_mk χ' χ a (9 + k) n → Q (some a) χ') : xxw_made N (nI k) n χ Q := by
  unfold xxw_made
  rcases (show k = 0 ∨ k = 1 ∨ k = 2 ∨ k = 3 ∨ k = 4 ∨ k = 5 by omega) with rfl | rfl | rfl | rfl | rfl | rfl
  · exact ⟨fun z => absurd z (by decide), fun z => absurd z (by decide), fun z => absurd z (by decide), fun z => absurd z (by decide), fun z => absurd z (by decide), fun _ => ⟨by omega, fun a ha => by rintro _ rfl; exact cs_init (by decide) ha (hq a)⟩⟩
  · exact ⟨fun _ => ⟨by omega, fun a ha => by rintro _ rfl; exact cs_init (by decide) ha (hq a)⟩, fun z => absurd z (by decide), fun z => absurd z (by decide), fun z => absurd z (by decide), fun z => absurd z (by decide), fun z => absurd (by decide) z.1⟩
  · exact ⟨fun z => absurd z (by decide), fun _ => ⟨by omega, fun a ha => by rintro _ rfl; exact cs_init (by decide) ha (hq a)⟩, fun z => absurd z (by decide), fun z => absurd z (by decide), fun z => absurd z (by decide), fun z => absurd (by decide) z.2.1⟩
  · exact ⟨fun z => absurd z (by decide), fun z => absurd z (by decide), fun _ => ⟨by omega, fun a ha => by rintro _ rfl; exact cs_init (by decide) ha (hq a)⟩, fun z => absurd z (by decide), fun z => absurd z (by decide), fun z => absurd (by decide) z.2.2.1⟩
  · exact ⟨fun z => absurd z (by decide), fun z => absurd z (by decide), fun z => absurd z (by decide), fun _ => ⟨by omega, fun a ha => by rintro _ rfl; exact cs_init (by decide) ha (hq a)⟩, fun z => absurd z (by decide), fun z => absurd (by decide) z.2.2.2.1⟩
  · exact ⟨fun z => absurd z (by decide), fun z => absurd z (by decide), fun z => absurd z (by decide), fun z => absurd z (by decide), fun _ => ⟨by omega, fun a ha => by rintro _ rfl; exact cs_init (by decide) ha (hq a)⟩, fun z => absurd (by decide) z.2.2.2.2⟩
/-- a gleaner more among the folk -/
theorem RX_more {x : xx_S} {a k n : Nat} (h : RX χ s) (hm : s.g.1 < 5) (hk : k < 6) (hn : n < 10) (hx : cc_mk x χ a (9 + k) (nI n)) :
    RX (xx_s (xx_rs x 43 s.g.1 (some a)) 0 1 (nI (s.g.1 + 1))) ((s.c.b, s.c.L, pp_up s.c.ap s.g.1 0, s.c.nt), (s.g.1 + 1, pp_up s.g.2.1 s.g.1 k, pp_up s.g.2.2 s.g.1 n), s.t, s.tp, s.im, s.sh) := by
  obtain ⟨x0, xg, xr, xL, xa⟩ := hx
  obtain ⟨⟨c1, c2, c3, c4, c5, c6, c7⟩, h2, ⟨h3, h4, h5, h6, h7⟩, ⟨h8, h9, h10, h11⟩, h12, h13, h14⟩ := h
  generalize hY : xx_s (xx_rs x 43 s.g.1 (some a)) 0 1 (nI (s.g.1 + 1)) = Y
  have yg : ∀ i q, ¬ (i = 0 ∧ q = 1) → xx_g Y i q = xx_g χ i q := fun i q z => by rw [← hY, xx_gs, if_neg z, xx_grs]; exact xg i q
  have yr : ∀ i q, ¬ (i = 43 ∧ q = s.g.1) → xx_r Y i q = xx_r χ i q := fun i q z => by rw [← hY, xx_rsI, xx_rrs, if_neg z]; exact xr i q
  have ya : xx_r Y 43 s.g.1 = some a := by rw [← hY, xx_rsI, xx_rrs, if_pos ⟨rfl, rfl⟩]
  have yL : cc_gr Y χ := by rw [← hY]; exact xL
  have ygl : xx_gl Y a (9 + k) (nI n) 0 := by rw [← hY]; exact xa
  have y1 : xx_g Y 0 1 = nI (s.g.1 + 1) := by rw [← hY]; exact xx_me
  have y0 : xx_r Y 0 0 = xx_r χ 0 0 := yr 0 0 (fun z => absurd z.1 (by decide))
  have yt : ∀ t f, cc_text χ t f → cc_text Y t f := fun t f z => cc_text_gr z yL y0 (yr 44 t (fun z => absurd z.1 (by decide)))
  have old : ∀ p, p < s.g.1 → ∃ y, xx_r Y 43 p = some y ∧ y ∈ xx_L χ ∧ xx_gl Y y (9 + s.g.2.1 p) (nI (s.g.2.2 p)) (nI (s.c.ap p)) := fun p hp => by
    obtain ⟨⟨y, e1, e2⟩, _⟩ := c4 p hp
    refine ⟨y, (yr 43 p (fun z => by omega)).trans e1, e2.1, (yL y e2.1).1, (yL y e2.1).2.trans e2.2.1, e2.2.2⟩
  refine ⟨⟨by show s.g.1 + 1 ≤ 5; omega, y1, fun r hr => ?_, fun p hp => ?_, ?_, ?_, ⟨fun p q hp e => ?_, fun q z e => ?_⟩⟩, h2, ⟨?_, h4, ?_, h6, fun t ht => yt t _ (h7 t ht)⟩, ⟨?_, h9, h10, fun i hi => ?_⟩, ?_, fun k hk => cc_sh_gr (h13 k hk) yL (yr _ _ (fun z => by omega)), fun j k b hj hk e1 e2 => ?_⟩
  · obtain ⟨r1, r2, r3⟩ := c3 r hr
    exact ⟨by rw [yg 1 r (fun z => absurd z.1 (by decide))]; exact r1, by rw [yg 2 r (fun z => absurd z.1 (by decide))]; exact r2, r3⟩
  · have hp : p < s.g.1 + 1 := hp
    by_cases e : p = s.g.1
    · subst e
      refine ⟨⟨a, ya, ?_⟩, ?_, ?_, ?_⟩
      · show xx_gl Y a (9 + pp_up s.g.2.1 s.g.1 k s.g.1) (nI (pp_up s.g.2.2 s.g.1 n s.g.1)) (nI (pp_up s.c.ap s.g.1 0 s.g.1))
        unfold pp_up
        rw [if_pos rfl, if_pos rfl, if_pos rfl]
        exact ygl
      · show pp_up s.g.2.1 s.g.1 k s.g.1 ≤ 5
        unfold pp_up; rw [if_pos rfl]; omega
      · show pp_up s.g.2.2 s.g.1 n s.g.1 ≤ 9
        unfold pp_up; rw [if_pos rfl]; omega
      · show pp_up s.c.ap s.g.1 0 s.g.1 ≤ 999
        unfold pp_up; rw [if_pos rfl]; omega
    · obtain ⟨y, e1, e2, e3⟩ := old p (by omega)
      obtain ⟨_, l1, l2, l3⟩ := c4 p (show p < s.g.1 by omega)
      refine ⟨⟨y, e1, ?_⟩, ?_, ?_, ?_⟩
      · show xx_gl Y y (9 + pp_up s.g.2.1 s.g.1 k p) (nI (pp_up s.g.2.2 s.g.1 n p)) (nI (pp_up s.c.ap s.g.1 0 p))
        unfold pp_up
        rw [if_neg e, if_neg e, if_neg e]
        exact e3
      · show pp_up s.g.2.1 s.g.1 k p ≤ 5
        unfold pp_up; rw [if_neg e]; exact l1
      · show pp_up s.g.2.2 s.g.1 n p ≤ 9
        unfold pp_up; rw [if_neg e]; exact l2
      · show pp_up s.c.ap s.g.1 0 p ≤ 999
        unfold pp_up; rw [if_neg e]; exact l3
  · rw [yg 0 2 (by decide)]; exact c5
  · obtain ⟨t, t1, t2, t3⟩ := c6
    exact ⟨t, t1, by rw [yg 0 24 (by decide)]; exact t2, yt t _ t3⟩
  · have hp : p < s.g.1 + 1 := hp
    by_cases e1 : p = s.g.1 <;> by_cases e2 : q = s.g.1
    · omega
    · subst e1
      rw [ya, yr 43 q (fun z => e2 z.2)] at e
      exact absurd (c7.2 q a e.symm) x0
    · subst e2
      rw [ya, yr 43 p (fun z => e1 z.2)] at e
      exact absurd (c7.2 p a e) x0
    · exact c7.1 p q (show p < s.g.1 by omega) (by rw [← yr 43 p (fun z => e1 z.2), ← yr 43 q (fun z => e2 z.2)]; exact e)
  · by_cases e2 : q = s.g.1
    · subst e2
      rw [ya] at e
      rw [← Option.some.inj e]
      exact ygl.1
    · rw [yr 43 q (fun z => e2 z.2)] at e
      exact (yL z (c7.2 q z e)).1
  · rw [yg 0 24 (by decide)]; exact h3
  · rw [yg 0 13 (by decide)]; exact h5
  · rw [yg 0 17 (by decide)]; exact h8
  · rw [yg 30 i (fun z => absurd z.1 (by decide))]; exact h11 i hi
  · exact cc_im_mo (cc_im_of h12 (yg 0 35 (by decide)) (fun i hi q => yg i q (fun z => absurd hi (by rw [z.1]; decide)))) (Nat.le_succ _)
  · rw [yr _ _ (fun z => by omega)] at e1 e2
    exact h14 j k b hj hk e1 e2
variable {Q : Int32 → xx_S → Prop}
theorem xs_gleaner {N : Nat} {kd num : Int32} (hN : 1 ≤ N) (h : RX χ s) (hq : ∀ χ', RX χ' (po_gleaner s kd num).2 → Q (po_gleaner s kd num).1 χ') : xxw_gleaner N kd num χ Q := by
  have hm' : s.g.1 ≤ 5 := h.1.1
  have g1 : xx_g χ 0 1 = nI s.g.1 := h.1.2.1
  unfold po_gleaner at hq
  unfold xxw_gleaner
  refine cs_lt (n := 6) (by decide) (by decide) (fun k hk e => ml_1 ?_) (fun e => ml_0 ?_)
  · subst e
    rw [pp_ix_some hk (by decide)] at hq
    dsimp only at hq
    refine cs_lt (n := 10) (by decide) (by decide) (fun n hn e => ml_1 ?_) (fun e => ml_0 ?_)
    · subst e
      rw [pp_ix_some hn (by decide)] at hq
      dsimp only at hq
      rw [g1, show nI s.g.1 = (5 : Int32) ↔ s.g.1 = 5 from nI_eq (b := 5) (by omega) (by decide)]
      refine ⟨fun e => ?_, fun e => ⟨1, by omega, cs_made (Nat.le_refl _) hk (fun a x hx => ⟨a, rfl, ml_in (by omega) (by decide), _, _, _, hx.2.2.2.2, ?_⟩)⟩⟩
      · rw [if_pos e] at hq
        exact hq χ h
      · rw [if_neg e] at hq
        rintro _ rfl _ rfl
        rw [ml_cl (by omega), xx_grs, hx.2.1 0 1, g1, show nI s.g.1 + (1 : Int32) = nI (s.g.1 + 1) from nI_1 _, xx_me, show nI (s.g.1 + 1) - (1 : Int32) = nI s.g.1 from pk_sub (b := 1) (by omega)]
        exact hq _ (RX_more h (by omega) hk hn hx)
    · rw [pp_ix_none (by decide) e] at hq
      exact hq χ h
  · rw [pp_ix_none (by decide) e] at hq
    exact hq χ h
end CSK
