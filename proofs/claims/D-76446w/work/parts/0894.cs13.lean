/-! THE CLASS'S METHODS against the abstract state, on: numbers and aprons that would do -/
section CSN
variable {χ : xx_S} {s : pp_S}
/-- a gleaner's number (1) or apron (2) is another -/
def pp_sv (s : pp_S) (w p v : Nat) : pp_S := if w = 1 then (s.c, (s.g.1, s.g.2.1, pp_up s.g.2.2 p v), s.t, s.tp, s.im, s.sh) else s.setc (s.c.b, s.c.L, pp_up s.c.ap p v, s.c.nt)
def pp_vo (s : pp_S) (w p : Nat) : Nat := if w = 1 then s.g.2.2 p else s.c.ap p
theorem pp_up_up (f : Nat → Nat) (p v : Nat) : pp_up (pp_up f p v) p (f p) = f := by
  funext q
  unfold pp_up
  by_cases e : q = p
  · rw [if_pos e, e]
  · rw [if_neg e, if_neg e]
theorem pp_sv_back {w p v : Nat} (hw : w = 1 ∨ w = 2) : pp_sv (pp_sv s w p v) w p (pp_vo s w p) = s := by
  rcases hw with rfl | rfl
  · show (s.c, (s.g.1, s.g.2.1, pp_up (pp_up s.g.2.2 p v) p (s.g.2.2 p)), s.t, s.tp, s.im, s.sh) = s
    rw [pp_up_up]
  · show ((s.c.b, s.c.L, pp_up (pp_up s.c.ap p v) p (s.c.ap p), s.c.nt), s.g, s.t, s.tp, s.im, s.sh) = s
    rw [pp_up_up]
theorem cs_told12 {Q : Int32 → xx_S → Prop} {p w : Nat} (h : RX χ s) (hp : p < s.g.1) (hw : w = 1 ∨ w = 2) (hq : Q (nI (pp_vo s w p)) χ) : xxw_told (nI p) (nI w) χ Q := by
  have hm' : s.g.1 ≤ 5 := h.1.1
  obtain ⟨⟨y, y1, y2⟩, y3⟩ := h.1.2.2.2.1 p hp
  have hi : (nI w).toInt = (w : Int) := nI_toInt (by omega)
  unfold xxw_told xxw_toldOf
  rw [ml_cl (show p < 2 ^ 31 by omega)]
  refine ⟨fun e => absurd e (nI_ne0 (by omega) (by omega)), fun _ => cs_inc (a := 5) (z := 10) (by decide) (by decide) (fun hh => by rw [hi] at hh; omega) (fun _ => ml_0 (cs_inc (a := 1) (z := 4) (by decide) (by decide) (fun _ => ml_1 (cs_isOne (n := s.g.1) h.1.2.1 hm' (fun _ _ _ => ml_1 ?_) (fun e => absurd rfl (e p hp)))) (fun hh => absurd (by rw [hi]; omega) hh)))⟩
  rcases hw with rfl | rfl
  · exact ⟨fun _ => ⟨ml_in (by omega) (by decide), y, y1, _, _, _, y2, hq⟩, fun z => absurd z (by decide), fun z => absurd z (by decide), fun z => absurd rfl z.1⟩
  · exact ⟨fun z => absurd z (by decide), fun _ => ⟨ml_in (by omega) (by decide), y, y1, _, _, _, y2, hq⟩, fun z => absurd z (by decide), fun z => absurd rfl z.2.1⟩
theorem cs_becomesP {Q : xx_S → Prop} {w p v : Nat} (h : RX χ s) (hp : p < s.g.1) (hw : w = 1 ∨ w = 2) (hv : v ≤ if w = 1 then 9 else 999) (hq : ∀ χ', RX χ' (pp_sv s w p v) → cc_pool χ' χ → Q χ') : xxw_becomes (nI w) (nI p) (nI v) χ Q := by
  have hm' : s.g.1 ≤ 5 := h.1.1
  obtain ⟨⟨y, y1, y2⟩, y3⟩ := h.1.2.2.2.1 p hp
  unfold xxw_becomes
  rw [ml_cl (show p < 2 ^ 31 by omega)]
  rcases hw with rfl | rfl
  · refine ⟨fun z => absurd z (by decide), fun _ => ⟨ml_in (by omega) (by decide), y, y1, _, _, _, y2, ?_⟩, fun z => absurd rfl z.2⟩
    rintro _ rfl
    exact hq _ (RX_num h hp y1 y2 hv) (cc_pool_ps y2 ⟨_, y1⟩)
  · refine ⟨fun z => absurd z (by decide), fun z => absurd z (by decide), fun _ => ⟨ml_in (by omega) (by decide), y, y1, _, _, _, y2, ?_⟩⟩
    rintro _ rfl
    exact hq _ (RX_core (g := s.g) (K := s.K) h rfl rfl (cc_C_ap h.1 hp y1 y2 hv) h.2.1 (fun _ _ => rfl) (fun _ _ _ => rfl) (cc_pool_ps y2 ⟨_, y1⟩)) (cc_pool_ps y2 ⟨_, y1⟩)
def pp_sb (s : pp_S) (w p r n : Nat) (it : Nat → Int32) (v : Nat) : Bool := pp_so (pp_sv s w p v).K (pp_sv s w p v).c p r n it
variable {Q : Int32 → xx_S → Prop}
theorem cs_isSoBy {N w p r v y so n : Nat} {f it : Nat → Int32} (h : RX χ s) (hp : p < s.g.1) (hr : r < 4) (hw : w = 1 ∨ w = 2) (hv : v ≤ if w = 1 then 9 else 999) (hO : xx_ob χ y so n f) (hit : ∀ i, i < n → f i = it i) (hn : n ≤ (pp_runs (s.c.b r) (s.c.L r)).length)
    (hq : ∀ χ', RX χ' s → cc_pool χ' χ → Q (if pp_sb s w p r n it v = true then 1 else 0) χ') : xxw_isSoBy N y (nI p) (nI r) (nI w) (nI v) χ Q := by
  have hp' : p < (pp_sv s w p v).g.1 := by rcases hw with rfl | rfl <;> exact hp
  have hn' : n ≤ (pp_runs ((pp_sv s w p v).c.b r) ((pp_sv s w p v).c.L r)).length := by rcases hw with rfl | rfl <;> exact hn
  have ho : pp_vo s w p ≤ if w = 1 then 9 else 999 := by
    obtain ⟨_, _, a1, a2⟩ := h.1.2.2.2.1 p hp
    rcases hw with rfl | rfl
    · exact a1
    · exact a2
  unfold xxw_isSoBy xxw_isSoBy_34
  refine cs_told12 h hp hw (cs_becomesP h hp hw hv (fun χ1 h1 p1 => ⟨0, by omega, cs_otherwise (K := (pp_sv s w p v).K) (c := (pp_sv s w p v).c) h1.1 hp' hr (xx_ob_pool hO p1) hit hn' (fun χ2 hc2 e2 => ?_)⟩))
  have h2 := RX_same h1 hc2 e2
  refine ⟨fun z => cs_becomesP h2 hp' hw ho (fun χ3 h3 p3 => ⟨Or.inr rfl, ?_⟩), fun z => cs_becomesP h2 hp' hw ho (fun χ3 h3 p3 => ⟨Or.inl rfl, ?_⟩)⟩
  · rw [pp_sv_back hw] at h3
    have := hq χ3 h3 (cc_pool_tr p3 (cc_pool_tr e2.2 p1))
    rw [show pp_sb s w p r n it v = true from pp_so_iff.mpr z, if_pos rfl] at this
    exact this
  · rw [pp_sv_back hw] at h3
    have := hq χ3 h3 (cc_pool_tr p3 (cc_pool_tr e2.2 p1))
    have e : pp_sb s w p r n it v = false := by
      cases e : pp_sb s w p r n it v with
      | false => rfl
      | true => exact absurd (pp_so_iff.mp e) z
    rw [e, if_neg (by decide)] at this
    exact this
theorem cs_numbersOf_6 {N p r y so n : Nat} {f it : Nat → Int32} (hp : p < s.g.1) (hr : r < 4) (hit : ∀ i, i < n → f i = it i) (hn : n ≤ (pp_runs (s.c.b r) (s.c.L r)).length) (hq : ∀ χ', RX χ' s → Q (nI (pp_or (pp_sb s 1 p r n it) 10)) χ') :
    ∀ (d k C : Nat) (χ : xx_S), C ≤ N → k + d = 10 → RX χ s → xx_ob χ y so n f → xxw_numbersOf_6 N Q (d + 1) y (nI p) (nI r) (nI (pp_or (pp_sb s 1 p r n it) k)) (nI k) C χ := by
  intro d
  induction d with
  | zero =>
    intro k C χ hC hk h hO
    obtain rfl : k = 10 := by omega
    unfold xxw_numbersOf_6
    exact ⟨fun _ => hq χ h, fun z => absurd (by decide) z⟩
  | succ d ih =>
    intro k C χ hC hk h hO
    unfold xxw_numbersOf_6 xxw_numbersOf_36
    rw [show (9 : Int32) < nI k ↔ 9 < k from nI_ltI (a := 9) (by decide) (by omega)]
    refine ⟨fun z => by omega, fun _ => ⟨0, hC, cs_isSoBy (w := 1) h hp hr (Or.inl rfl) (by show k ≤ 9; omega) hO hit hn (fun χ' h' p' => ?_)⟩⟩
    have hnext := ih (k + 1) C χ' hC (by omega) h' (xx_ob_pool hO p')
    rw [nI_1]
    unfold pp_or at hnext
    cases e : pp_sb s 1 p r n it k with
    | true =>
      rw [e, if_pos rfl] at hnext
      refine ⟨fun z => absurd z (by decide), fun _ => ?_⟩
      rw [ml_or1 (by omega)]
      exact hnext
    | false =>
      rw [e, if_neg (by decide), Nat.or_zero] at hnext
      refine ⟨fun _ => ?_, fun z => absurd rfl z⟩
      rw [ml_or00]
      exact hnext
theorem cs_apronsOf_6c {N p r y so n : Nat} {f it : Nat → Int32} (hp : p < s.g.1) (hr : r < 4) (hit : ∀ i, i < n → f i = it i) (hn : n ≤ (pp_runs (s.c.b r) (s.c.L r)).length) (hq : ∀ χ', RX χ' s → Q (nI (pp_ct (pp_sb s 2 p r n it) 100)) χ') :
    ∀ (d k C : Nat) (χ : xx_S), C ≤ N → k + d = 100 → RX χ s → xx_ob χ y so n f → xxw_apronsOf_6 N Q (d + 1) y (nI p) (nI r) 0 (nI (pp_ct (pp_sb s 2 p r n it) k)) (nI k) C χ := by
  intro d
  induction d with
  | zero =>
    intro k C χ hC hk h hO
    obtain rfl : k = 100 := by omega
    unfold xxw_apronsOf_6
    exact ⟨fun _ => ⟨fun _ => hq χ h, fun z => absurd rfl z⟩, fun z => absurd (by decide) z⟩
  | succ d ih =>
    intro k C χ hC hk h hO
    unfold xxw_apronsOf_6
    rw [show (99 : Int32) < nI k ↔ 99 < k from nI_ltI (a := 99) (by decide) (by omega)]
    refine ⟨fun z => by omega, fun _ => ⟨0, hC, cs_isSoBy (w := 2) h hp hr (Or.inr rfl) (by show k ≤ 999; omega) hO hit hn (fun χ' h' p' => ?_)⟩⟩
    have hnext := ih (k + 1) C χ' hC (by omega) h' (xx_ob_pool hO p')
    rw [nI_1, nI_1]
    unfold pp_ct at hnext
    cases e : pp_sb s 2 p r n it k with
    | true =>
      rw [e, if_pos rfl] at hnext
      exact ⟨fun z => absurd z (by decide), fun _ => ⟨fun _ => hnext, fun z => absurd rfl z⟩⟩
    | false =>
      rw [e, if_neg (by decide), Nat.add_zero] at hnext
      exact ⟨fun _ => hnext, fun z => absurd rfl z⟩
theorem cs_apronsOf_6f {N p r y so n : Nat} {f it : Nat → Int32} (hp : p < s.g.1) (hr : r < 4) (hit : ∀ i, i < n → f i = it i) (hn : n ≤ (pp_runs (s.c.b r) (s.c.L r)).length) (hq : ∀ χ', RX χ' s → Q (pp_dn (pp_sb s 2 p r n it) 100 (0, 0, -1)).2.2 χ') :
    ∀ (d k C : Nat) (x : Int32) (χ : xx_S), C ≤ N → k + d = 100 → (∀ u, u < k → pp_sb s 2 p r n it u = false) → RX χ s → xx_ob χ y so n f → xxw_apronsOf_6 N Q (d + 1) y (nI p) (nI r) 1 x (nI k) C χ := by
  intro d
  induction d with
  | zero =>
    intro k C x χ hC hk h0 h hO
    obtain rfl : k = 100 := by omega
    unfold xxw_apronsOf_6
    refine ⟨fun _ => ⟨fun z => absurd z (by decide), fun _ => ?_⟩, fun z => absurd (by decide) z⟩
    have := hq χ h
    rw [pp_dn_none _ _ h0] at this
    exact this
  | succ d ih =>
    intro k C x χ hC hk h0 h hO
    unfold xxw_apronsOf_6
    rw [show (99 : Int32) < nI k ↔ 99 < k from nI_ltI (a := 99) (by decide) (by omega)]
    refine ⟨fun z => by omega, fun _ => ⟨0, hC, cs_isSoBy (w := 2) h hp hr (Or.inr rfl) (by show k ≤ 999; omega) hO hit hn (fun χ' h' p' => ?_)⟩⟩
    rw [nI_1]
    cases e : pp_sb s 2 p r n it k with
    | true =>
      refine ⟨fun z => absurd z (by decide), fun _ => ⟨fun z => absurd z (by decide), fun _ => ?_⟩⟩
      have := hq χ' h'
      have hd : 100 = k + 1 + d := by omega
      rw [hd, pp_dn_first e h0 d] at this
      exact this
    | false =>
      exact ⟨fun _ => ih (k + 1) C x χ' hC (by omega) (fun u hu => by
        by_cases w : u = k
        · rw [w]; exact e
        · exact h0 u (by omega)) h' (xx_ob_pool hO p'), fun z => absurd rfl z⟩
end CSN
