/-! THE CLASS'S METHODS against the abstract state, on: all orders, the best -/
section CSJ
variable {χ : xx_S} {s : pp_S}
def cb_b (χ : xx_S) : Option (Nat × Int32) → Prop
  | none => xx_g χ 0 34 = 0
  | some q => xx_g χ 0 34 = 1 ∧ xx_g χ 0 32 = nI q.1 ∧ xx_g χ 0 33 = q.2
theorem cb_b_of {x y : xx_S} {B : Option (Nat × Int32)} (h : cb_b x B) (e : ∀ k, k ∈ [32, 33, 34] → xx_g y 0 k = xx_g x 0 k) : cb_b y B := by
  cases B with
  | none => unfold cb_b at h ⊢; rw [e 34 (by decide)]; exact h
  | some q => unfold cb_b at h ⊢; rw [e 34 (by decide), e 32 (by decide), e 33 (by decide)]; exact h
/-- only the best, the rows and the frames from fr on are others -/
def cc_fq (fr : Nat) (x y : xx_S) : Prop := (∀ i k, (i = 0 → k ∈ [1, 13, 17, 24, 35]) → i ∉ cc_S0 → xx_g x i k = xx_g y i k) ∧ (∀ f k, f < fr → xx_g x (8 + f) k = xx_g y (8 + f) k ∧ xx_g x (14 + f) k = xx_g y (14 + f) k ∧ xx_g x (20 + f) k = xx_g y (20 + f) k ∧ xx_g x 6 f = xx_g y 6 f) ∧ cc_pool x y
theorem cc_fq_rf {fr : Nat} {x : xx_S} : cc_fq fr x x := ⟨fun _ _ _ _ => rfl, fun _ _ _ => ⟨rfl, rfl, rfl, rfl⟩, cc_pool_rf⟩
theorem cc_fq_tr {fr : Nat} {x y z : xx_S} (h1 : cc_fq fr x y) (h2 : cc_fq fr y z) : cc_fq fr x z := ⟨fun i k a b => (h1.1 i k a b).trans (h2.1 i k a b), fun f k hf => by
  obtain ⟨a1, a2, a3, a4⟩ := h1.2.1 f k hf
  obtain ⟨b1, b2, b3, b4⟩ := h2.2.1 f k hf
  exact ⟨a1.trans b1, a2.trans b2, a3.trans b3, a4.trans b4⟩, cc_pool_tr h1.2.2 h2.2.2⟩
theorem cc_fq_mo {fr fr' : Nat} {x y : xx_S} (h : cc_fq fr' x y) (hf : fr ≤ fr') : cc_fq fr x y := ⟨h.1, fun f k a => h.2.1 f k (by omega), h.2.2⟩
theorem cc_fq_fc {fr : Nat} {x y : xx_S} (h : cc_fc x y) : cc_fq fr x y := ⟨fun i k a b => h.1 i k (fun z => (show ∀ k, k ∈ [1, 13, 17, 24, 35] → k ∈ cc_k1 by decide) k (a z)) (fun z => b ((show ∀ i, i ∈ [1, 2, 3, 4, 5] → i ∈ cc_S0 by decide) i z)), fun f k hf => by
  have key : ∀ i, 6 ≤ i → i ∉ [1, 2, 3, 4, 5] := fun i hi z => by simp at z; omega
  exact ⟨h.1 _ _ (fun z => by omega) (key _ (by omega)), h.1 _ _ (fun z => by omega) (key _ (by omega)), h.1 _ _ (fun z => by omega) (key _ (by omega)), h.1 _ _ (fun z => by omega) (key _ (by omega))⟩, h.2⟩
theorem cc_fq_fk {fr : Nat} {x y : xx_S} (h : cc_fk fr x y) (hfr : fr < 6) : cc_fq fr x y := by
  have key : ∀ f, f < 6 → 8 + f ∈ cc_S0 ∧ 14 + f ∈ cc_S0 ∧ 20 + f ∈ cc_S0 := by decide
  obtain ⟨k1, k2, k3⟩ := key fr hfr
  refine ⟨fun i k a b => h.1 i k (fun z => b (z ▸ k1)) (fun z => b (z ▸ k2)) (fun z => b (z ▸ k3)) (fun z => b (by rw [z.1]; decide)), fun f k hf => ⟨?_, ?_, ?_, ?_⟩, cc_pool_e h.2⟩
  · exact h.1 _ _ (by omega) (by omega) (by omega) (by omega)
  · exact h.1 _ _ (by omega) (by omega) (by omega) (by omega)
  · exact h.1 _ _ (by omega) (by omega) (by omega) (by omega)
  · exact h.1 _ _ (by omega) (by omega) (by omega) (by omega)
theorem cc_fq_s {fr k : Nat} {v : Int32} (h : k ∈ [32, 33, 34]) : cc_fq fr (xx_s χ 0 k v) χ := by
  have hk : k ∉ [1, 13, 17, 24, 35] := (show ∀ k, k ∈ [32, 33, 34] → k ∉ [1, 13, 17, 24, 35] by decide) k h
  exact ⟨fun i q a b => by rw [xx_gs, if_neg (fun (z : i = 0 ∧ q = k) => hk (z.2 ▸ a z.1))], fun f q hf => by
    rw [xx_ro (by omega), xx_ro (by omega), xx_ro (by omega), xx_ro (by omega)]; exact ⟨rfl, rfl, rfl, rfl⟩, cc_pool_e rfl⟩
theorem cc_C_b {K : pp_K} {c : pp_C} {k : Nat} {v : Int32} (hc : cc_C χ K c) (h : k ∈ [32, 33, 34]) : cc_C (xx_s χ 0 k v) K c := by
  have hk : k ∉ [1, 2, 24] := (show ∀ k, k ∈ [32, 33, 34] → k ∉ [1, 2, 24] by decide) k h
  exact cc_C_ints (xx_s χ 0 k v) hc (by rfl) (fun q hq => by rw [xx_gs, if_neg (fun (z : 0 = 0 ∧ q = k) => hk (z.2 ▸ hq))]) c rfl rfl (fun r hr => by
    obtain ⟨r1, r2, r3⟩ := hc.2.2.1 r hr
    exact ⟨by rw [xx_ro (by decide)]; exact r1, by rw [xx_ro (by decide)]; exact r2, r3⟩)
theorem cs_orders_20 {G : Int32 → Int32 → Int32 → Int32 → Int32 → Int32 → xx_S → (xx_S → Prop) → Prop} {Q : xx_S → Prop} {dg fr : Nat} {v : Int32} {B : Option (Nat × Int32)} {K : pp_K} {c : pp_C} (hc : cc_C χ K c) (hB : cb_b χ B) (hq : ∀ χ', cc_C χ' K c → cc_fq fr χ' χ → cb_b χ' (pp_lf B dg v) → Q χ') : xxw_orders_20 G Q (nI dg) v χ := by
  have fin : ∀ (a b : Int32) (χ' : xx_S), (∀ χ'', cc_C χ'' K c → cc_fq fr χ'' χ → xx_g χ'' 0 34 = 1 → xx_g χ'' 0 32 = a → xx_g χ'' 0 33 = b → Q χ'') → χ' = xx_s χ 0 32 a → xxw_orders_73 G Q b χ' := by
    rintro a b _ hh rfl _ rfl _ rfl
    refine hh _ (cc_C_b (cc_C_b (cc_C_b hc (by decide)) (by decide)) (by decide)) (cc_fq_tr (cc_fq_s (by decide)) (cc_fq_tr (cc_fq_s (by decide)) (cc_fq_s (by decide)))) xx_me ?_ ?_
    · rw [xx_ot (by decide), xx_ot (by decide), xx_me]
    · rw [xx_ot (by decide), xx_me]
  unfold xxw_orders_20
  cases B with
  | none =>
    have h34 : xx_g χ 0 34 = 0 := hB
    refine ⟨fun _ => ?_, fun z => absurd h34 z⟩
    rintro _ rfl
    refine ⟨fun _ => fin (nI dg) v _ (fun χ'' a b c1 c2 c3 => hq χ'' a b ⟨c1, c2, c3⟩) rfl, fun z => absurd (by rw [xx_ot (by decide)]; exact h34) z⟩
  | some q =>
    obtain ⟨h34, h32, h33⟩ := hB
    unfold pp_lf at hq
    dsimp only at hq
    have ne : ∀ a : Int32, ¬ xx_g (xx_s χ 0 32 a) 0 34 = 0 := fun a => by rw [xx_ot (by decide), h34]; decide
    have e33 : ∀ a : Int32, xx_g (xx_s χ 0 32 a) 0 33 = q.2 := fun a => by rw [xx_ot (by decide), h33]
    refine ⟨fun z => by rw [h34] at z; exact absurd z (by decide), fun _ => ?_⟩
    rw [h33]
    refine ⟨fun hv => ?_, fun hv => ?_⟩
    · rw [if_pos hv] at hq
      rw [h32]
      rintro _ rfl
      refine ⟨fun z => absurd z (ne _), fun _ => ?_⟩
      rw [e33, if_neg (fun z => by rw [Int32.lt_iff_toInt_lt] at z; rw [Int32.le_iff_toInt_le] at hv; omega)]
      exact fin (nI q.1) q.2 _ (fun χ'' a b c1 c2 c3 => hq χ'' a b ⟨c1, c2, c3⟩) rfl
    · rw [if_neg hv] at hq
      rintro _ rfl
      refine ⟨fun z => absurd z (ne _), fun _ => ?_⟩
      rw [e33, if_pos (by rw [Int32.lt_iff_toInt_lt]; rw [Int32.le_iff_toInt_le] at hv; omega)]
      exact fin (nI dg) v _ (fun χ'' a b c1 c2 c3 => hq χ'' a b ⟨c1, c2, c3⟩) rfl
theorem co_out : ∀ m, m < 6 → ∀ u, u < 32 → ∀ p, p < 5 → (u < 2 ^ m ∧ p < m ∧ u.testBit p = false) → (2 ^ m - (u + 1)) &&& (31 ^^^ 2 ^ p) = 2 ^ m - ((u ||| 2 ^ p) + 1) := by decide +kernel
theorem co_outI : ∀ a, a < 32 → ∀ p, p < 5 → nI a &&& (((1 : Int32) <<< (nI p &&& 31)) ^^^ (-1)) = nI (a &&& (31 ^^^ 2 ^ p)) := by decide +kernel
abbrev cb_GT := Int32 → Int32 → Int32 → Int32 → Int32 → Int32 → xx_S → (xx_S → Prop) → Prop
def cb_G (K : pp_K) (r : Nat) (who : Option Nat) (d : Nat) (G : cb_GT) : Prop := ∀ (u fr : Nat) (c : pp_C) (dg : Nat) (tk : Int32) (B : Option (Nat × Int32)) (χ : xx_S) (Q : xx_S → Prop), cc_C χ K c → cb_b χ B → u < 2 ^ K.many → pp_fr u K.many = d → fr + d = K.many → dg + 1 ≤ 10 ^ (5 - d) →
  (∀ χ', cc_C χ' K c → cc_fq fr χ' χ → cb_b χ' (pp_os K r who d u c dg tk B) → Q χ') → G (pp_who who) (nI r) (nI (2 ^ K.many - (u + 1))) (nI fr) (nI dg) tk χ Q
theorem cs_orders_85 {K : pp_K} {r : Nat} {who : Option Nat} {d : Nat} {G : cb_GT} (hG : cb_G K r who d G) (hr : r < 4) {Q : xx_S → Prop} {u fr dg : Nat} {tk : Int32} {c : pp_C} {χ0 : xx_S} (hu : u < 2 ^ K.many) (hd : pp_fr u K.many = d + 1) (hfd : fr + (d + 1) = K.many) (hdg : dg + 1 ≤ 10 ^ (5 - (d + 1)))
    (hm : K.many ≤ 5) (hw31 : ∀ p, who = some p → p < 2 ^ 31) {X : Option (Nat × Int32)} (hq : ∀ χ', cc_C χ' K c → cc_fq fr χ' χ0 → cb_b χ' X → Q χ') :
    ∀ (j k : Nat) (B : Option (Nat × Int32)) (χ : xx_S), k + j = K.many → cc_C χ K c → cc_fq fr χ χ0 → cb_b χ B →
      pp_it (fun p B => if u.testBit p then B else pp_os K r who d (u ||| 2 ^ p) (pp_gc K c p r) (10 * dg + p + 1) (if who = some p then Int32.ofInt (pp_gr K c p r).1.2.2.2 else tk) B) j k B = X →
      xxw_orders_85 G Q (j + 1) (pp_who who) (nI r) (nI (2 ^ K.many - (u + 1))) (nI fr) (nI dg) tk (nI k) χ := by
  have h32 : (2 : Nat) ^ K.many ≤ 2 ^ 5 := Nat.pow_le_pow_right (by decide) hm
  have h10 : (10 : Nat) ^ (5 - d) = 10 * 10 ^ (5 - (d + 1)) := by
    rw [show 5 - d = (5 - (d + 1)) + 1 by omega, Nat.pow_succ, Nat.mul_comm]
  have h105 : (10 : Nat) ^ (5 - (d + 1)) ≤ 10 ^ 5 := Nat.pow_le_pow_right (by decide) (by omega)
  intro j
  induction j with
  | zero =>
    intro k B χ h1 hc hf hB hX
    unfold xxw_orders_85
    rw [hc.2.1, nI_leI (by omega) (by omega)]
    exact ⟨fun _ => hq χ hc hf (by rw [← hX]; exact hB), fun z => absurd (show K.many ≤ k by omega) z⟩
  | succ j ih =>
    intro k B χ h1 hc hf hB hX
    unfold pp_it at hX
    unfold xxw_orders_85
    rw [hc.2.1, nI_leI (by omega) (by omega), nI_1]
    have htb : (2 ^ K.many - (u + 1)).testBit k = !u.testBit k := by
      rw [Nat.testBit_two_pow_sub_succ hu]
      simp
      omega
    refine ⟨fun z => by omega, fun _ => cs_isIn (by omega) (by omega) (fun hbit => ml_1 ?_) (fun hbit => ml_0 ?_)⟩
    · rw [htb] at hbit
      have hb : u.testBit k = false := by simpa using hbit
      rw [hb, if_neg (by decide)] at hX
      refine cs_keeps (fr := fr) (by omega) hc (fun χ1 k1 f1 => ?_)
      refine cs_gleansC (cc_C_fk hc f1 (by omega)) (by omega) hr (fun χ2 hc2 _ f2 _ => ?_)
      have f12 : cc_fq fr χ2 χ := cc_fq_tr (cc_fq_fc f2) (cc_fq_fk f1 (by omega))
      have hB2 : cb_b χ2 B := cb_b_of hB (fun q hq' => by
        have hk : q ∈ cc_k1 := (show ∀ k, k ∈ [32, 33, 34] → k ∈ cc_k1 by decide) q hq'
        rw [f2.1 0 q (fun _ => hk) (by decide), f1.1 0 q (by omega) (by omega) (by omega) (by omega)])
      have go : ∀ tk', (if who = some k then Int32.ofInt (pp_gr K c k r).1.2.2.2 else tk) = tk' → xxw_orders_159 G Q (fun y0 y1 y2 y3 y4 y5 y6 τ => xxw_orders_85 G Q (j + 1) y0 y1 y2 y3 y4 y5 y6 τ) (pp_who who) (nI r) (nI (2 ^ K.many - (u + 1))) (nI fr) (nI dg) tk (nI k) (pp_who who) (nI r) (nI (2 ^ K.many - (u + 1)) &&& (((1 : Int32) <<< (nI k &&& 31)) ^^^ (-1))) (nI (fr + 1)) ((((10 : Int32) * nI dg) + nI k) + 1) tk' χ2 := by
        intro tk' htk
        rw [htk] at hX
        unfold xxw_orders_159
        rw [co_outI _ (by omega) k (by omega), co_out K.many (by omega) u (by omega) k (by omega) ⟨hu, by omega, hb⟩, show (10 : Int32) = nI 10 from rfl, pk_mul, nI_add, nI_1]
        refine hG (u ||| 2 ^ k) (fr + 1) (pp_gc K c k r) (10 * dg + k + 1) tk' B χ2 _ hc2 hB2 (Nat.or_lt_two_pow hu (Nat.pow_lt_pow_right (by decide) (by omega))) (by have := pp_fr_or hb K.many (by omega); omega) (by omega) (by rw [h10]; omega) (fun χ3 hc3 f3 hB3 => ?_)
        have k2 := cc_kept_fc k1 f2 (show fr < 6 by omega)
        have k3 : cc_kept χ3 fr K c := ⟨fun p hp => (f3.2.1 fr p (by omega)).1.trans (k2.1 p hp), fun q hq' => ⟨(f3.2.1 fr q (by omega)).2.1.trans (k2.2.1 q hq').1, (f3.2.1 fr q (by omega)).2.2.1.trans (k2.2.1 q hq').2⟩, (f3.2.1 fr 0 (by omega)).2.2.2.trans k2.2.2⟩
        refine cs_laysBack (by omega) hc3 k3 (cc_ok hc) (fun χ4 hc4 e4 p4 => ?_)
        have f4 : cc_fq fr χ4 χ3 := ⟨fun i q a b => e4 i q (fun z => b (by rw [z]; decide)) (fun z => b (by rw [z]; decide)) (fun z => absurd (a z.1) (by rw [z.2]; decide)), fun f q hf' => ⟨e4 _ _ (by omega) (by omega) (by omega), e4 _ _ (by omega) (by omega) (by omega), e4 _ _ (by omega) (by omega) (by omega), e4 _ _ (by omega) (by omega) (by omega)⟩, p4⟩
        rw [nI_1]
        exact ih (k + 1) _ χ4 (by omega) hc4 (cc_fq_tr f4 (cc_fq_tr (cc_fq_mo f3 (by omega)) (cc_fq_tr f12 hf))) (cb_b_of hB3 (fun q hq' => e4 0 q (by decide) (by decide) (fun z => absurd hq' (by rw [z.2]; decide)))) hX
      have hwho : nI k = pp_who who ↔ who = some k := by
        cases who with
        | none =>
          refine ⟨fun z => ?_, fun z => by cases z⟩
          have := congrArg Int32.toInt z
          rw [nI_toInt (by omega), show (pp_who none).toInt = -1 from by decide] at this
          omega
        | some p =>
          constructor
          · intro z
            have z : nI k = nI p := z
            rw [(nI_eq (by omega) (hw31 p rfl)).mp z]
          · intro z
            cases z
            rfl
      rw [nI_1]
      refine ⟨fun e => go _ (if_pos (hwho.mp e)), fun e => go _ (if_neg (fun z => e (hwho.mpr z)))⟩
    · rw [htb] at hbit
      have hb : u.testBit k = true := by simpa using hbit
      rw [hb, if_pos rfl] at hX
      exact ih (k + 1) B χ (by omega) hc hf hB hX
theorem cs_orders {K : pp_K} {r : Nat} {who : Option Nat} (hr : r < 4) (hm : K.many ≤ 5) (hw31 : ∀ p, who = some p → p < 2 ^ 31) : ∀ f d : Nat, d < f → cb_G K r who d (xxw_g_orders f) := by
  intro f
  induction f with
  | zero => intro d h; omega
  | succ f ih =>
    intro d h u fr c dg tk B χ Q hc hB hu hd hfd hdg hq
    have h32 : (2 : Nat) ^ K.many ≤ 2 ^ 5 := Nat.pow_le_pow_right (by decide) hm
    have hp0 := Nat.two_pow_pos K.many
    show xxw_orders (xxw_g_orders f) (pp_who who) (nI r) (nI (2 ^ K.many - (u + 1))) (nI fr) (nI dg) tk χ Q
    have hz : nI (2 ^ K.many - (u + 1)) = 0 ↔ d = 0 := by
      rw [show nI (2 ^ K.many - (u + 1)) = 0 ↔ 2 ^ K.many - (u + 1) = 0 from nI_eq (b := 0) (by omega) (by decide), ← hd, ← pp_full hu]
      omega
    have hw : pp_who who = -1 ↔ who = none := by
      cases who with
      | none => exact ⟨fun _ => rfl, fun _ => rfl⟩
      | some p =>
        refine ⟨fun z => ?_, fun z => by cases z⟩
        have := congrArg Int32.toInt z
        rw [show pp_who (some p) = nI p from rfl, nI_toInt (hw31 p rfl), show (-1 : Int32).toInt = -1 by decide] at this
        omega
    unfold xxw_orders
    rw [hz, hw]
    refine ⟨fun e => ?_, fun e => ?_⟩
    · subst e
      unfold pp_os at hq
      refine ⟨fun e => cs_gapsOf hr (hc.2.2.1 r hr) ?_, fun e => ?_⟩
      · rw [if_pos e] at hq
        exact cs_orders_20 hc hB hq
      · rw [if_neg e] at hq
        exact cs_orders_20 hc hB hq
    · obtain ⟨d, rfl⟩ : ∃ d', d = d' + 1 := ⟨d - 1, by omega⟩
      exact ⟨K.many + 1, cs_orders_85 (ih d (by omega)) hr hu hd hfd hdg hm hw31 (X := pp_os K r who (d + 1) u c dg tk B) (fun χ' h1 h2 h3 => hq χ' h1 h2 h3) K.many 0 B χ (by omega) hc cc_fq_rf hB rfl⟩
theorem cs_goesThrough {who : Option Nat} {r : Nat} {Q : xx_S → Prop} (hr : r < 4) (hw : ∀ p, who = some p → p < 2 ^ 31) (h : RX χ s) (hq : ∀ χ', RX χ' s → xx_g χ' 0 32 = nI (pp_best s.K s.c r who).1 → xx_g χ' 0 33 = (pp_best s.K s.c r who).2 → Q χ') : xxw_goesThrough (pp_who who) (nI r) χ Q := by
  rintro _ rfl
  have hm : s.K.many ≤ 5 := h.1.1
  have h32 : (2 : Nat) ^ s.K.many ≤ 2 ^ 5 := Nat.pow_le_pow_right (by decide) hm
  have hp0 := Nat.two_pow_pos s.K.many
  have hc : cc_C (xx_s χ 0 34 0) s.K s.c := cc_C_b h.1 (by decide)
  have hs := pp_os_some (K := s.K) (r := r) (who := who) s.K.many 0 s.c 0 0 none (pp_fr_z _)
  rw [hc.2.1, show ((1 : Int32) <<< (nI s.K.many &&& 31)) - 1 = nI (2 ^ s.K.many - (0 + 1)) from by rw [show (1 : Int32) = nI 1 from rfl, ml_shl (by omega) (by omega), Nat.one_mul, pk_sub (by omega)]]
  refine cs_orders hr hm hw 6 s.K.many (by omega) 0 0 s.c 0 0 none _ Q hc xx_me hp0 (pp_fr_z _) (by omega) (Nat.pow_pos (by decide)) (fun χ' h1 h2 h3 => ?_)
  obtain ⟨q, eq⟩ := Option.isSome_iff_exists.mp hs
  have hb : pp_best s.K s.c r who = q := by unfold pp_best; rw [eq]; rfl
  rw [eq] at h3
  obtain ⟨_, g1, g2⟩ := h3
  have hf : cc_fq 0 χ' χ := cc_fq_tr h2 (cc_fq_s (by decide))
  refine hq χ' (RX_core (g := s.g) (c := s.c) h rfl rfl h1 h.2.1 (fun k hk => hf.1 0 k (fun _ => (show ∀ k, k ∈ [13, 17, 24, 35] → k ∈ [1, 13, 17, 24, 35] by decide) k hk) (by decide)) (fun i hi k => hf.1 i k (fun z => absurd hi (by rw [z]; decide)) ((show ∀ i, i ∈ [7, 26, 27, 28, 29, 30] → i ∉ cc_S0 by decide) i hi)) hf.2.2) ?_ ?_
  · rw [hb]; exact g1
  · rw [hb]; exact g2
variable {Q : Int32 → xx_S → Prop}
theorem xs_first {one row w : Int32} (h : RX χ s) (hq : ∀ χ', RX χ' s → Q (po_first s one row w) χ') : xxw_first one row w χ Q := by
  have hm' : s.g.1 ≤ 5 := h.1.1
  unfold po_first at hq
  unfold xxw_first
  refine cs_isOne (n := s.g.1) h.1.2.1 hm' (fun p hp e => ml_1 ?_) (fun e => ml_0 ?_)
  · subst e
    rw [pp_ix_some (n := s.g.1) hp (by omega)] at hq
    refine cs_isRow (fun r hr e => ml_1 ?_) (fun e => ml_0 ?_)
    · subst e
      rw [pp_ix_some hr (by decide)] at hq
      dsimp only at hq
      refine cs_lt (n := 2) (by decide) (by decide) (fun k hk e => ml_1 ?_) (fun e => ml_0 ?_)
      · have e2 : (pp_ix w 2).isSome = true := by rw [e, pp_ix_some hk (by decide)]; rfl
        rw [if_pos e2] at hq
        refine cs_goesThrough (who := some p) hr (fun q hq => by cases hq; omega) h (fun χ' h' g1 g2 => ⟨fun e => ?_, fun e => ?_⟩)
        · have := hq χ' h'
          rw [if_pos e] at this
          rw [g1]; exact this
        · have := hq χ' h'
          rw [if_neg e] at this
          rw [g2]; exact this
      · rw [pp_ix_none (by decide) e] at hq
        exact hq χ h
    · rw [pp_ix_none (by decide) e] at hq
      exact hq χ h
  · rw [pp_ix_none (n := s.g.1) (by omega) e] at hq
    exact hq χ h
theorem xs_best {row w : Int32} (h : RX χ s) (hq : ∀ χ', RX χ' s → Q (po_best s row w) χ') : xxw_best row w χ Q := by
  unfold po_best at hq
  unfold xxw_best
  refine cs_isRow (fun r hr e => ml_1 ?_) (fun e => ml_0 ?_)
  · subst e
    rw [pp_ix_some hr (by decide)] at hq
    dsimp only at hq
    refine cs_lt (n := 5) (by decide) (by decide) (fun k hk e => ml_1 ?_) (fun e => ml_0 ?_)
    · have e2 : (pp_ix w 5).isSome = true := by rw [e, pp_ix_some hk (by decide)]; rfl
      rw [if_pos e2] at hq
      subst e
      rcases (show k = 0 ∨ k = 1 ∨ k = 2 ∨ k = 3 ∨ k = 4 by omega) with rfl | rfl | rfl | rfl | rfl
      · rw [if_pos (by decide)] at hq
        refine ⟨fun _ => cs_goesThrough (who := none) hr (fun q hq => by cases hq) h (fun χ' h' g1 g2 => ⟨fun _ => ?_, fun z => absurd (by decide) z⟩), fun z => absurd z (by decide), fun z => absurd z (by decide), fun z => absurd z (by decide), fun z => absurd (by decide) z.1⟩
        rw [g1]; exact hq χ' h'
      · rw [if_neg (by decide), if_pos (by decide)] at hq
        refine ⟨fun z => absurd z (by decide), fun _ => cs_goesThrough (who := none) hr (fun q hq => by cases hq) h (fun χ' h' g1 g2 => ⟨fun z => absurd z (by decide), fun _ => ?_⟩), fun z => absurd z (by decide), fun z => absurd z (by decide), fun z => absurd (by decide) z.2.1⟩
        rw [g2]; exact hq χ' h'
      · rw [if_neg (by decide), if_neg (by decide), if_pos (by decide)] at hq
        refine ⟨fun z => absurd z (by decide), fun z => absurd z (by decide), fun _ => ⟨fun _ => cs_alone hr h (fun χ' h' => ?_), fun z => absurd (by decide) z⟩, fun z => absurd z (by decide), fun z => absurd (by decide) z.2.2.1⟩
        rw [if_neg (by decide)]
        exact hq χ' h'
      · rw [if_neg (by decide), if_neg (by decide), if_neg (by decide), if_pos (by decide)] at hq
        refine ⟨fun z => absurd z (by decide), fun z => absurd z (by decide), fun z => absurd z (by decide), fun _ => ⟨fun z => absurd z (by decide), fun _ => cs_alone hr h (fun χ' h' => ?_)⟩, fun z => absurd (by decide) z.2.2.2⟩
        rw [if_pos (by decide)]
        exact hq χ' h'
      · rw [if_neg (by decide), if_neg (by decide), if_neg (by decide), if_neg (by decide)] at hq
        refine ⟨fun z => absurd z (by decide), fun z => absurd z (by decide), fun z => absurd z (by decide), fun z => absurd z (by decide), fun _ => cs_bare hr h.1 (fun χ' hc e => hq χ' (RX_same h hc e))⟩
    · rw [pp_ix_none (by decide) e] at hq
      exact hq χ h
  · rw [pp_ix_none (by decide) e] at hq
    exact hq χ h
end CSJ
