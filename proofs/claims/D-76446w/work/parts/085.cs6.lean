/-! THE CLASS'S METHODS against the abstract state, on: feed, set, rows for, the longest, parts, rows by lot, alone, bare, images -/
section CSG
variable {χ : xx_S} {s : pp_S} {Q : Int32 → xx_S → Prop}
theorem xs_feed {a : Int32} (h : RX χ s) (hq : ∀ χ', RX χ' (po_feed s a).2 → Q (po_feed s a).1 χ') : xxw_feed a χ Q := by
  have h0 := h
  obtain ⟨h1, h2, ⟨h3, h4, h5, h6, h7⟩, ⟨h8, h9, h10, h11⟩, h12, h13, h14⟩ := h
  unfold po_feed at hq
  unfold xxw_feed
  refine cs_inc (a := 0) (z := 255) (by decide) (by decide) (fun ha => ml_1 ?_) (fun ha => ml_0 ?_)
  · rw [if_pos ha] at hq
    rw [h8, show (160 : Int32) = nI 160 from rfl, nI_eq (by omega) (by decide)]
    refine ⟨fun e => ?_, fun e => ⟨ml_in (by omega) (by decide), ?_⟩⟩
    · rw [if_pos e] at hq
      exact hq χ h0
    · rw [if_neg e] at hq
      rintro _ rfl _ rfl
      rw [ml_cl (by omega), xx_ro (show (0 : Nat) ≠ 30 by decide), h8, nI_1, xx_me]
      have hp : cc_pool (xx_s (xx_s χ 30 s.tp.1 ((a).toInt8.toInt32).toInt8.toInt32) 0 17 (nI (s.tp.1 + 1))) χ := cc_pool_e rfl
      have e0 : ∀ k, k ≠ 17 → xx_g (xx_s (xx_s χ 30 s.tp.1 ((a).toInt8.toInt32).toInt8.toInt32) 0 17 (nI (s.tp.1 + 1))) 0 k = xx_g χ 0 k := fun k hk => by rw [xx_ot hk, xx_ro (show (0 : Nat) ≠ 30 by decide)]
      have er : ∀ i k, i ≠ 0 → i ≠ 30 → xx_g (xx_s (xx_s χ 30 s.tp.1 ((a).toInt8.toInt32).toInt8.toInt32) 0 17 (nI (s.tp.1 + 1))) i k = xx_g χ i k := fun i k a b => by rw [xx_ro a, xx_ro b]
      refine hq _ ⟨cc_C_ints _ h1 (by rfl) (fun k hk => e0 k (fun z => absurd hk (by rw [z]; decide))) s.c rfl rfl (fun r hr => ?_), h2, ⟨by rw [e0 24 (by decide)]; exact h3, h4, by rw [e0 13 (by decide)]; exact h5, h6, fun t ht => cc_text_pool (h7 t ht) hp⟩, ⟨xx_me, by show s.tp.1 + 1 ≤ 160; omega, fun i hi => ?_, fun i hi => ?_⟩,
        cc_im_of h12 (e0 35 (by decide)) (fun i hi k => er i k ((show ∀ i, i ∈ [7, 26, 27, 28, 29] → i ≠ 0 ∧ i ≠ 30 by decide) i hi).1 ((show ∀ i, i ∈ [7, 26, 27, 28, 29] → i ≠ 0 ∧ i ≠ 30 by decide) i hi).2), fun k hk => cc_sh_of (h13 k hk) hp, h14⟩
      · obtain ⟨r1, r2, r3⟩ := h1.2.2.1 r hr
        exact ⟨by rw [er 1 r (by decide) (by decide)]; exact r1, by rw [er 2 r (by decide) (by decide)]; exact r2, r3⟩
      · show 0 ≤ (if i = s.tp.1 then a else s.tp.2 i).toInt ∧ (if i = s.tp.1 then a else s.tp.2 i).toInt ≤ 255
        by_cases e : i = s.tp.1
        · rw [if_pos e]; exact ha
        · rw [if_neg e]
          exact h10 i (by have : i < s.tp.1 + 1 := hi; omega)
      · show xx_g _ 30 i = (if i = s.tp.1 then a else s.tp.2 i).toInt8.toInt32
        rw [xx_ro (show (30 : Nat) ≠ 0 by decide), xx_gs]
        by_cases e : i = s.tp.1
        · rw [if_pos e, if_pos ⟨rfl, e⟩]
          simp
        · rw [if_neg e, if_neg (fun z => e z.2)]
          exact h11 i (by have : i < s.tp.1 + 1 := hi; omega)
  · rw [if_neg ha] at hq
    exact hq χ h0
theorem cs_rowFor_36 {p : Nat} {w : Int32} (hp : p < s.g.1) (d : Nat) : ∀ (k : Nat) (f m : Int32) (χ : xx_S), k + d = 4 → f ≠ -1 → RX χ s → (∀ χ', RX χ' s → Q (if w = 0 then (pp_rf s.K s.c p d k f m).1 else (pp_rf s.K s.c p d k f m).2) χ') → xxw_rowFor_36 Q (d + 1) (nI p) w f m (nI k) χ := by
  induction d with
  | zero =>
    intro k f m χ h1 hf h hq
    unfold xxw_rowFor_36
    rw [show (4 : Int32) = nI 4 from rfl, nI_leI (by omega) (by omega)]
    refine ⟨fun _ => ⟨fun e => ?_, fun e => ?_⟩, fun z => absurd (show 4 ≤ k by omega) z⟩
    · have := hq χ h
      rw [if_pos e] at this
      exact this
    · have := hq χ h
      rw [if_neg e] at this
      exact this
  | succ d ih =>
    intro k f m χ h1 hf h hq
    unfold xxw_rowFor_36
    rw [show (4 : Int32) = nI 4 from rfl, nI_leI (by omega) (by omega)]
    refine ⟨fun z => by omega, fun _ => cs_triesOf h.1 hp (by omega) (fun χ' hc ft _ _ => ?_)⟩
    have h' := RX_same h hc ft
    have hk1 : nI k ≠ -1 := fun z => by
      have := congrArg Int32.toInt z
      rw [nI_toInt (by omega), show (-1 : Int32).toInt = -1 by decide] at this
      omega
    unfold pp_rf at hq
    unfold xxw_rowFor_65
    rw [nI_1]
    refine ⟨fun hle => ?_, fun hle => ?_⟩
    · rw [if_neg (show ¬ (f = -1 ∨ m < pp_try s.K s.c p k 0) from fun z => z.elim hf (fun z => absurd hle (Int32.not_le.mpr z)))] at hq
      rw [if_neg (Int32.not_lt.mpr hle)]
      exact ih (k + 1) _ _ χ' (by omega) hf h' hq
    · rw [if_pos (Or.inr (Int32.not_le.mp hle))] at hq
      rw [if_pos (Int32.not_le.mp hle)]
      exact ih (k + 1) _ _ χ' (by omega) hk1 h' hq
theorem xs_rowFor {one w : Int32} (h : RX χ s) (hq : ∀ χ', RX χ' s → Q (po_rowFor s one w) χ') : xxw_rowFor one w χ Q := by
  have hm' : s.g.1 ≤ 5 := h.1.1
  unfold po_rowFor at hq
  unfold xxw_rowFor
  refine cs_isOne (n := s.g.1) h.1.2.1 hm' (fun p hp e => ml_1 ?_) (fun e => ml_0 ?_)
  · subst e
    rw [pp_ix_some (n := s.g.1) hp (by omega)] at hq
    dsimp only at hq
    refine cs_lt (n := 2) (by decide) (by decide) (fun k hk e => ml_1 ?_) (fun e => ml_0 ?_)
    · have e2 : (pp_ix w 2).isSome = true := by rw [e, pp_ix_some hk (by decide)]; rfl
      rw [if_pos e2] at hq
      refine cs_triesOf (r := 0) h.1 hp (by decide) (fun χ' hc ft _ _ => ⟨4, cs_rowFor_36 hp 3 1 0 _ χ' (by decide) (by decide) (RX_same h hc ft) ?_⟩)
      exact hq
    · rw [pp_ix_none (by decide) e] at hq
      exact hq χ h
  · rw [pp_ix_none (n := s.g.1) (by omega) e] at hq
    exact hq χ h
/-! the longest run -/
theorem cs_longest_21 {K6 : Int32 → Int32 → Int32 → xx_S → Prop} {all : List (Nat × Nat)} {r : Nat} (hal : all.length ≤ 24) (hsz : ∀ q, q ∈ all → q.2 ≤ 24) (hru : ∀ (j : Nat) (q : Nat × Nat), all[j]? = some q → xx_g χ 3 j = nI q.2) :
    ∀ (rest : List (Nat × Nat)) (k : Nat) (f : Int32) (m : Nat), all.drop k = rest → k ≤ all.length → m ≤ 24 → K6 (pp_lk r rest k f m).1 (nI (pp_lk r rest k f m).2) (nI r + 1) χ → xxw_longest_21 Q K6 (rest.length + 1) f (nI m) (nI r) (nI all.length) (nI k) χ := by
  intro rest
  induction rest with
  | nil =>
    intro k f m h1 h2 h3 hq
    have : all.length ≤ k := by
      have := congrArg List.length h1
      rw [List.length_drop] at this
      simp at this
      omega
    unfold xxw_longest_21
    rw [nI_leI (by omega) (by omega)]
    exact ⟨fun _ => hq, fun z => absurd this z⟩
  | cons q rest ih =>
    intro k f m h1 h2 h3 hq
    have hk : k < all.length := by
      have := congrArg List.length h1
      rw [List.length_drop] at this
      simp at this
      omega
    have hg : all[k]? = some q := by
      have := congrArg (fun l => l[0]?) h1
      simpa using this
    have hmem : q ∈ all := List.mem_of_getElem? hg
    have h24 := hsz q hmem
    have hdr : all.drop (k + 1) = rest := by
      have := congrArg (List.drop 1) h1
      rw [List.drop_drop] at this
      simpa [Nat.add_comm] using this
    unfold xxw_longest_21 xxw_longest_50
    rw [nI_leI (by omega) (by omega), ml_cl (by omega), hru k q hg, nI_leI (by omega) (by omega), nI_1 k, ml_100]
    unfold pp_lk at hq
    refine ⟨fun z => by omega, fun _ => ⟨ml_in (by omega) (by decide), fun h => ⟨ml_in (by omega) (by decide), ?_⟩, fun h => ⟨ml_in (by omega) (by decide), ?_⟩⟩⟩
    · rw [if_neg (by omega)] at hq
      rw [if_neg (fun z => absurd ((nI_ltI (by omega) (by omega)).mp z) (by omega))]
      exact ih (k + 1) f m hdr (by omega) h3 hq
    · rw [if_pos (by omega)] at hq
      rw [if_pos ((nI_ltI (by omega) (by omega)).mpr (by omega))]
      exact ih (k + 1) _ q.2 hdr (by omega) h24 hq
theorem cs_longest_6 : ∀ (d r : Nat) (f : Int32) (m : Nat) (χ : xx_S), r + d = 4 → m ≤ 24 → RX χ s → (∀ χ', RX χ' s → Q (pp_lr s.c d r f m) χ') → xxw_longest_6 Q (d + 1) f (nI m) (nI r) χ := by
  intro d
  induction d with
  | zero =>
    intro r f m χ h1 h2 h hq
    unfold xxw_longest_6
    rw [show (4 : Int32) = nI 4 from rfl, nI_leI (by omega) (by omega)]
    exact ⟨fun _ => hq χ h, fun z => absurd (show 4 ≤ r by omega) z⟩
  | succ d ih =>
    intro r f m χ h1 h2 h hq
    have hrow := h.1.2.2.1 r (by omega)
    have hL := hrow.2.2.1
    have hlen : (pp_runs (s.c.b r) (s.c.L r)).length ≤ s.c.L r := pp_rn_len _ _ _ 0 (by omega)
    have hL' : s.c.L r ≤ 24 := hL
    have hsz : ∀ q, q ∈ pp_runs (s.c.b r) (s.c.L r) → q.2 ≤ 24 := fun q hm => by have := pp_runs_sz hm; omega
    unfold xxw_longest_6
    rw [show (4 : Int32) = nI 4 from rfl, nI_leI (by omega) (by omega)]
    refine ⟨fun z => by omega, fun _ => cs_tellsRuns (by omega) hrow (fun χ' hf hru => ⟨_, cs_longest_21 (by omega) hsz hru _ 0 f m rfl (Nat.zero_le _) h2 ?_⟩)⟩
    rw [nI_1]
    exact ih (r + 1) _ _ χ' (by omega) (pp_lk_le r _ 0 f m hsz h2) (RX_e h (cc_e_3 hf) (by decide)) hq
theorem xs_longest (h : RX χ s) (hq : ∀ χ', RX χ' s → Q (po_longest s) χ') : xxw_longest χ Q := ⟨5, cs_longest_6 4 0 (-1) 0 χ (by decide) (by decide) h hq⟩
/-! parts -/
theorem cs_lowest_6 {Q : Int64 → xx_S → Prop} {a b : Nat} {w : Int32} (ha : a < 2 ^ 62) (hb : b < 2 ^ 62) :
    ∀ (f x y : Nat), y < f → x < 2 ^ 62 → y < 2 ^ 62 → 0 < Nat.gcd x y → Q (if w = 0 then lN (a / Nat.gcd x y) else lN (b / Nat.gcd x y)) χ → xxw_lowest_6 Q f (lN a) (lN b) w (lN x) (lN y) χ := by
  intro f
  induction f with
  | zero => intro x y h; omega
  | succ f ih =>
    intro x y h hx hy hg hq
    unfold xxw_lowest_6 xxw_lowest_41
    rw [lg_cmp_eq, ml_l0, pk_lEQ (by omega) (by decide)]
    refine ⟨fun h0 => ?_, fun h0 => ?_⟩
    · subst h0
      rw [Nat.gcd_zero_right] at hg hq
      rw [pk_lEQ (by omega) (by decide), pk_lDiv (by omega) hg (by omega), pk_lDiv (by omega) hg (by omega)]
      refine ⟨fun e => ⟨by omega, ?_⟩, fun e => ⟨by omega, ?_⟩⟩
      · rw [if_pos e] at hq; exact hq
      · rw [if_neg e] at hq; exact hq
    · have hm := Nat.mod_lt x (show 0 < y by omega)
      have e : Nat.gcd y (x % y) = Nat.gcd x y := by
        rw [Nat.gcd_comm x y, Nat.gcd_rec y x]
        exact Nat.gcd_comm _ _
      rw [pk_lRem (by omega) (by omega) (by omega)]
      exact ⟨h0, ih y (x % y) (by omega) hy (by omega) (by rw [e]; exact hg) (by rw [e]; exact hq)⟩
theorem cs_lowest {Q : Int64 → xx_S → Prop} {a b : Nat} {w : Int32} (ha : a < 2 ^ 62) (hb : b < 2 ^ 62) (h : 0 < b) (hq : Q (pp_low a b w) χ) : xxw_lowest (lN a) (lN b) w χ Q :=
  ⟨b + 1, cs_lowest_6 ha hb (b + 1) a b (by omega) ha hb (Nat.gcd_pos_of_pos_right a h) hq⟩
def cc_sum (f : Nat → Nat) : Nat → Nat
  | 0 => 0
  | k + 1 => cc_sum f k + f k
theorem cs_close_7 {Q : Int64 → xx_S → Prop} {w : Int32} (h : RX χ s) (hq : Q (po_close s w) χ) :
    ∀ d k : Nat, k + d = 4 → xxw_close_7 Q (d + 1) w (nI (cc_sum s.c.L k)) (nI (cc_sum (fun r => pp_pc 31 (s.c.b r)) k)) (nI k) χ := by
  have hr := fun r (hr : r < 4) => h.1.2.2.1 r hr
  have e4 : cc_sum s.c.L 4 = pp_all s.c ∧ cc_sum (fun r => pp_pc 31 (s.c.b r)) 4 = pp_some s.c := by
    unfold pp_all pp_some
    simp only [cc_sum]
    omega
  have hle : pp_some s.c ≤ pp_all s.c ∧ pp_all s.c ≤ 96 := by
    have p0 := ml_pc_le 31 _ _ (hr 0 (by decide)).2.2.2
    have p1 := ml_pc_le 31 _ _ (hr 1 (by decide)).2.2.2
    have p2 := ml_pc_le 31 _ _ (hr 2 (by decide)).2.2.2
    have p3 := ml_pc_le 31 _ _ (hr 3 (by decide)).2.2.2
    have q0 := (hr 0 (by decide)).2.2.1
    have q1 := (hr 1 (by decide)).2.2.1
    have q2 := (hr 2 (by decide)).2.2.1
    have q3 := (hr 3 (by decide)).2.2.1
    unfold pp_all pp_some
    omega
  intro d
  induction d with
  | zero =>
    intro k h1
    obtain rfl : k = 4 := by omega
    unfold xxw_close_7 xxw_close_56
    rw [e4.1, e4.2]
    refine ⟨fun _ => ?_, fun z => absurd (show (4 : Int32) ≤ nI 4 by decide) z⟩
    unfold po_close at hq
    refine cs_lt (n := 2) (by decide) (by decide) (fun k hk e => ml_1 ?_) (fun e => ml_0 ?_)
    · have e2 : (pp_ix w 2).isSome = true := by rw [e, pp_ix_some hk (by decide)]; rfl
      rw [if_pos e2] at hq
      rw [show nI (pp_all s.c) = 0 ↔ pp_all s.c = 0 from nI_eq (b := 0) (by omega) (by decide)]
      refine ⟨fun h0 => ?_, fun h0 => ?_⟩
      · rw [if_pos h0] at hq
        exact hq
      · rw [if_neg h0] at hq
        rw [nI_l (by omega), nI_l (by omega)]
        exact cs_lowest (by omega) (by omega) (by omega) hq
    · rw [pp_ix_none (by decide) e] at hq
      exact hq
  | succ d ih =>
    intro k h1
    obtain ⟨r1, r2, r3, r4⟩ := hr k (by omega)
    unfold xxw_close_7
    rw [show (4 : Int32) = nI 4 from rfl, nI_leI (by omega) (by omega), ml_cl (by omega), r1, r2, nI_add, nI_1]
    refine ⟨fun z => by omega, fun _ => ⟨ml_in (by omega) (by decide), ml_in (by omega) (by decide), cs_bitCount (ml_24 r3 r4) ?_⟩⟩
    rw [nI_add]
    exact ih (k + 1) (by omega)
theorem xs_close {Q : Int64 → xx_S → Prop} {w : Int32} (h : RX χ s) (hq : ∀ χ', RX χ' s → Q (po_close s w) χ') : xxw_close w χ Q :=
  ⟨5, cs_close_7 h (hq χ h) 4 0 (by decide)⟩
/-! rows by lot -/
theorem cs_takenDrawn_25 {K : pp_K} {c : pp_C} {p : Nat} {χ0 χ1 : xx_S} {B : Nat} (hp : p < K.many) (h0 : cc_C χ0 K c) (k1 : cc_kept χ1 0 K c) (f1 : cc_fk 0 χ1 χ0)
    (hq : ∀ χ', cc_C χ' K c → cc_ft χ' χ0 → Q (Int32.ofInt (pp_gl (pp_way K c.nt p) (pp_runs B 24) 0 B 24 (c.ap p) 0).1.2.2.2) χ') :
    ∀ (d k : Nat) (z : Int32) (b : Nat) (χ : xx_S), k + d = 24 → cc_C χ K (pp_up c.b 0 b, pp_up c.L 0 24, c.ap, c.nt) → cc_fc χ χ1 → b < 2 ^ k → pp_db d k z b = B → xxw_takenDrawn_25 Q (d + 1) (nI p) z (nI k) χ := by
  intro d
  induction d with
  | zero =>
    intro k z b χ h1 hc hf hb hB
    have hB : b = B := hB
    rw [← hB] at hq
    have hm := hc.1
    rw [show k = 24 by omega]
    unfold xxw_takenDrawn_25
    refine ⟨fun _ => ?_, fun z => absurd (Int32.le_refl _) z⟩
    refine cs_gleansC (r := 0) hc hp (by decide) (fun χ2 hc2 _ f2 _ => cs_back0 h0 k1 f1 hc2 (cc_fc_tr f2 hf) (fun χ' hc' ft _ _ => ?_))
    have e : (pp_gr K (pp_up c.b 0 b, pp_up c.L 0 24, c.ap, c.nt) p 0) = pp_gl (pp_way K c.nt p) (pp_runs b 24) 0 b 24 (c.ap p) 0 := by
      unfold pp_gr
      rw [show pp_C.b (pp_up c.b 0 b, pp_up c.L 0 24, c.ap, c.nt) 0 = b from rfl, show pp_C.L (pp_up c.b 0 b, pp_up c.L 0 24, c.ap, c.nt) 0 = 24 from rfl]
    rw [e]
    exact hq χ' hc' ft
  | succ d ih =>
    intro k z b χ h1 hc hf hb hB
    have z4 : (0 : Int32).toNatClampNeg = 0 := by decide
    have h24 : (2 : Nat) ^ k ≤ 2 ^ 23 := Nat.pow_le_pow_right (by decide) (by omega)
    have g2 : xx_g χ 2 0 = nI b := by
      have := (hc.2.2.1 0 (by decide)).2.1
      rw [show pp_C.b (pp_up c.b 0 b, pp_up c.L 0 24, c.ap, c.nt) 0 = b from rfl] at this
      exact this
    have g1 : xx_g χ 1 0 = nI 24 := by
      have := (hc.2.2.1 0 (by decide)).1
      rw [show pp_C.L (pp_up c.b 0 b, pp_up c.L 0 24, c.ap, c.nt) 0 = 24 from rfl] at this
      exact this
    have hpow : (2 : Nat) ^ (k + 1) = 2 ^ k * 2 := Nat.pow_succ 2 k
    have step : ∀ b', (if pp_dc (pp_dz z) = 0 then b else b ||| 2 ^ k) = b' → b' < 2 ^ (k + 1) → xxw_takenDrawn_25 Q (d + 1) (nI p) (pp_dz z) (nI (k + 1)) (xx_s χ 2 0 (nI b')) := by
      intro b' hb' hlt
      have hlt24 : b' < 2 ^ 24 := Nat.lt_of_lt_of_le hlt (Nat.pow_le_pow_right (by decide) (by omega))
      refine ih (k + 1) (pp_dz z) b' _ (by omega) (cc_C_ints _ hc (by rfl) (fun k _ => by rw [xx_ro (show (0 : Nat) ≠ 2 by decide)]) _ rfl rfl (fun r hr => ?_)) (cc_fc_tr (cc_fc_e (S := [2]) (cc_e_s (by decide)) (by decide)) hf) hlt ?_
      · show cc_row _ r (pp_up c.L 0 24 r) (pp_up c.b 0 b' r)
        obtain ⟨q1, q2, q3⟩ := hc.2.2.1 r hr
        unfold pp_up at q1 q2 q3 ⊢
        by_cases e : r = 0
        · rw [if_pos e, if_pos e, e]
          exact ⟨by rw [xx_ro (show (1 : Nat) ≠ 2 by decide)]; exact g1, by rw [xx_gs, if_pos ⟨rfl, rfl⟩], Nat.le_refl _, hlt24⟩
        · have q1 : xx_g χ 1 r = nI (if r = 0 then 24 else c.L r) := q1
          have q2 : xx_g χ 2 r = nI (if r = 0 then b else c.b r) := q2
          have q3 : (if r = 0 then 24 else c.L r) ≤ 24 ∧ (if r = 0 then b else c.b r) < 2 ^ (if r = 0 then 24 else c.L r) := q3
          rw [if_neg e] at q1 q2
          rw [if_neg e, if_neg e] at q3
          rw [if_neg e, if_neg e]
          exact ⟨by rw [xx_ro (show (1 : Nat) ≠ 2 by decide)]; exact q1, by rw [xx_gs, if_neg (fun w => e w.2)]; exact q2, q3⟩
      · rw [← hb', ← pp_db_s]
        exact hB
    unfold xxw_takenDrawn_25
    rw [show (24 : Int32) = nI 24 from rfl, nI_leI (by omega) (by omega)]
    rw [show (z * (1103515245 : Int32)) + (12345 : Int32) = pp_dz z from rfl]
    refine ⟨fun q => by omega, fun _ => ⟨ml_in (n := 0) (by decide) (by decide), fun e => ?_, fun e => ?_⟩⟩
    · have e : pp_dc (pp_dz z) = 0 := by unfold pp_dc; exact e
      unfold xxw_takenDrawn_66
      rw [z4, g2, show nI b ||| (0 : Int32) = nI b from by rw [show (0 : Int32) = nI 0 from rfl, ml_or, Nat.or_zero], nI_1]
      refine ⟨ml_in (n := 0) (by decide) (by decide), ?_⟩
      rintro _ rfl
      exact step b (if_pos e) (by omega)
    · have e : ¬ pp_dc (pp_dz z) = 0 := by unfold pp_dc; exact e
      unfold xxw_takenDrawn_66
      rw [z4, g2, show (1 : Int32) <<< (nI k &&& 31) = nI (2 ^ k) from by rw [show (1 : Int32) = nI 1 from rfl, ml_shl (by omega) (by omega), Nat.one_mul], ml_or, nI_1]
      refine ⟨ml_in (n := 0) (by decide) (by decide), ?_⟩
      rintro _ rfl
      exact step _ (if_neg e) (Nat.or_lt_two_pow (by omega) (by omega))
theorem cs_takenDrawn {K : pp_K} {c : pp_C} {p : Nat} {z : Int32} (h : cc_C χ K c) (hp : p < K.many) (hq : ∀ χ', cc_C χ' K c → cc_ft χ' χ → Q (pp_drawn K c p z) χ') : xxw_takenDrawn z (nI p) χ Q := by
  unfold xxw_takenDrawn
  refine cs_keeps (fr := 0) (by decide) h (fun χ1 k1 f1 => ⟨ml_in (n := 0) (by decide) (by decide), ?_⟩)
  rintro _ rfl
  refine ⟨ml_in (n := 0) (by decide) (by decide), ?_⟩
  rintro _ rfl
  rw [show (0 : Int32).toNatClampNeg = 0 from by decide]
  have hc1 := cc_C_fk h f1 (by decide)
  refine ⟨25, cs_takenDrawn_25 hp h k1 f1 hq 24 0 z 0 _ (by decide) (cc_C_ints _ hc1 (by rfl) (fun k _ => by rw [xx_ro (show (0 : Nat) ≠ 2 by decide), xx_ro (show (0 : Nat) ≠ 1 by decide)]) _ rfl rfl (fun r hr => ?_)) (cc_fc_tr (cc_fc_e (S := [2]) (cc_e_s (by decide)) (by decide)) (cc_fc_e (S := [1]) (cc_e_s (by decide)) (by decide))) (by decide) rfl⟩
  show cc_row _ r (pp_up c.L 0 24 r) (pp_up c.b 0 0 r)
  obtain ⟨q1, q2, q3⟩ := hc1.2.2.1 r hr
  unfold pp_up
  by_cases e : r = 0
  · rw [if_pos e, if_pos e, e]
    exact ⟨by rw [xx_ro (show (1 : Nat) ≠ 2 by decide), xx_gs, if_pos ⟨rfl, rfl⟩]; rfl, by rw [xx_gs, if_pos ⟨rfl, rfl⟩]; rfl, Nat.le_refl _, by decide⟩
  · rw [if_neg e, if_neg e]
    exact ⟨by rw [xx_ro (show (1 : Nat) ≠ 2 by decide), xx_gs, if_neg (fun w => e w.2)]; exact q1, by rw [xx_gs, if_neg (fun w => e w.2), xx_ro (show (2 : Nat) ≠ 1 by decide)]; exact q2, q3⟩
theorem xs_drawn {z one : Int32} (h : RX χ s) (hq : ∀ χ', RX χ' s → Q (po_drawn s z one) χ') : xxw_drawn z one χ Q := by
  have hm' : s.g.1 ≤ 5 := h.1.1
  unfold po_drawn at hq
  unfold xxw_drawn
  refine cs_isOne (n := s.g.1) h.1.2.1 hm' (fun p hp e => ml_1 ?_) (fun e => ml_0 ?_)
  · subst e
    rw [pp_ix_some (n := s.g.1) hp (by omega)] at hq
    exact cs_takenDrawn h.1 hp (fun χ' hc ft => hq χ' (RX_same h hc ft))
  · rw [pp_ix_none (n := s.g.1) (by omega) e] at hq
    exact hq χ h
theorem pp_ch_ge {K : pp_K} {c : pp_C} {p : Nat} {z k : Int32} : ∀ d i n : Nat, n ≤ pp_ch K c p z k d i n := by
  intro d
  induction d with
  | zero => intro i n; exact Nat.le_refl _
  | succ d ih =>
    intro i n
    unfold pp_ch
    have := ih (i + 1) (if pp_drawn K c p (z + nI i) < k then n else n + 1)
    have h2 : n ≤ (if pp_drawn K c p (z + nI i) < k then n else n + 1) := by split <;> omega
    omega
theorem cs_chance_54 {Q : Int64 → xx_S → Prop} {p M : Nat} {z k w : Int32} {X : Nat} (hp : p < s.g.1) (h0 : 0 < M) (hM : M ≤ 20) (hX : X ≤ 20) (hq : ∀ χ', RX χ' s → Q (pp_low X M w) χ') :
    ∀ (d i n : Nat) (χ : xx_S), i + d = M → RX χ s → pp_ch s.K s.c p z k d i n = X → xxw_chance_54 Q (d + 1) z (nI M) (nI p) k w (lN n) (nI i) χ := by
  intro d
  induction d with
  | zero =>
    intro i n χ h1 h hx
    have hx : n = X := hx
    subst hx
    unfold xxw_chance_54
    rw [nI_leI (by omega) (by omega), nI_l (by omega)]
    exact ⟨fun _ => cs_lowest (by omega) (by omega) h0 (hq χ h), fun q => absurd (show M ≤ i by omega) q⟩
  | succ d ih =>
    intro i n χ h1 h hx
    unfold pp_ch at hx
    unfold xxw_chance_54 xxw_chance_81
    rw [nI_leI (by omega) (by omega), nI_1, lN_1, Int64.add_zero]
    refine ⟨fun q => by omega, fun _ => cs_takenDrawn h.1 hp (fun χ' hc ft => ⟨fun hlt => ?_, fun hlt => ?_⟩)⟩
    · rw [if_pos hlt] at hx
      exact ih (i + 1) n χ' (by omega) (RX_same h hc ft) hx
    · rw [if_neg hlt] at hx
      exact ih (i + 1) (n + 1) χ' (by omega) (RX_same h hc ft) hx
theorem xs_chance {Q : Int64 → xx_S → Prop} {z m one k w : Int32} (h : RX χ s) (hq : ∀ χ', RX χ' s → Q (po_chance s z m one k w) χ') : xxw_chance z m one k w χ Q := by
  have hm' : s.g.1 ≤ 5 := h.1.1
  unfold po_chance at hq
  unfold xxw_chance
  refine cs_inc (a := 1) (z := 20) (by decide) (by decide) (fun hg => ml_1 ?_) (fun hg => ml_0 ?_)
  · obtain ⟨M, hM, e⟩ : ∃ n : Nat, (1 ≤ n ∧ n ≤ 20) ∧ m = nI n := ⟨m.toInt.toNat, by omega, by rw [← ml_iNat (by omega), Int32.ofInt_toInt]⟩
    subst e
    rw [pp_ix_some (show M < 21 by omega) (by decide)] at hq
    dsimp only at hq
    rw [if_neg (by omega)] at hq
    refine cs_isOne (n := s.g.1) h.1.2.1 hm' (fun p hp e => ml_1 ?_) (fun e => ml_0 ?_)
    · subst e
      rw [pp_ix_some (n := s.g.1) hp (by omega)] at hq
      dsimp only at hq
      refine cs_lt (n := 25) (by decide) (by decide) (fun k' hk e => ml_1 ?_) (fun e => ml_0 ?_)
      · have e2 : (pp_ix k 25).isSome = true := by rw [e, pp_ix_some hk (by decide)]; rfl
        refine cs_lt (n := 2) (by decide) (by decide) (fun w' hw e3 => ml_1 ?_) (fun e3 => ml_0 ?_)
        · have e4 : (pp_ix w 2).isSome = true := by rw [e3, pp_ix_some hw (by decide)]; rfl
          rw [if_pos ⟨e2, e4⟩] at hq
          have hle := pp_ch_le (K := s.K) (c := s.c) (p := p) (z := z) (k := k) M 0 0
          exact ⟨M + 1, cs_chance_54 (X := pp_ch s.K s.c p z k M 0 0) hp (by omega) (by omega) (by omega) hq M 0 0 χ (by omega) h rfl⟩
        · rw [if_neg (fun q => by rw [pp_ix_none (by decide) e3] at q; exact absurd q.2 (by decide))] at hq
          exact hq χ h
      · rw [if_neg (fun q => by rw [pp_ix_none (by decide) e] at q; exact absurd q.1 (by decide))] at hq
        exact hq χ h
    · rw [pp_ix_none (n := s.g.1) (by omega) e] at hq
      exact hq χ h
  · by_cases h0 : m = nI 0
    · subst h0
      rw [pp_ix_some (show 0 < 21 by decide) (by decide)] at hq
      exact hq χ h
    · rw [pp_ix_none (by decide) (fun k hk e => by
        subst e
        rw [nI_toInt (by omega)] at hg
        have : k ≠ 0 := fun z => h0 (by rw [z])
        omega)] at hq
      exact hq χ h
/-! alone, bare -/
theorem cs_alone_8 {r : Nat} {w : Int32} (hr : r < 4) (d : Nat) : ∀ (k : Nat) (f m : Int32) (χ : xx_S), k + d = s.g.1 → RX χ s → (∀ χ', RX χ' s → Q (if w = 0 then (pp_al s.K s.c r d k f m).2 else (pp_al s.K s.c r d k f m).1) χ') → xxw_alone_8 Q (d + 1) (nI r) w f m (nI k) χ := by
  induction d with
  | zero =>
    intro k f m χ h1 h hq
    have hm' : s.g.1 ≤ 5 := h.1.1
    unfold xxw_alone_8
    rw [h.1.2.1, nI_leI (show s.K.many < 2 ^ 31 from by show s.g.1 < 2 ^ 31; omega) (by omega)]
    refine ⟨fun _ => ⟨fun e => ?_, fun e => ?_⟩, fun z => absurd (show s.g.1 ≤ k by omega) z⟩
    · have := hq χ h
      rw [if_pos e] at this
      exact this
    · have := hq χ h
      rw [if_neg e] at this
      exact this
  | succ d ih =>
    intro k f m χ h1 h hq
    have hm' : s.g.1 ≤ 5 := h.1.1
    unfold xxw_alone_8
    rw [h.1.2.1, nI_leI (show s.K.many < 2 ^ 31 from by show s.g.1 < 2 ^ 31; omega) (by omega)]
    refine ⟨fun z => absurd (show s.g.1 ≤ k from z) (by omega), fun _ => cs_triesOf h.1 (show k < s.g.1 by omega) hr (fun χ' hc ft _ _ => ?_)⟩
    have h' := RX_same h hc ft
    unfold pp_al at hq
    unfold xxw_alone_39 xxw_alone_44 xxw_alone_57 xxw_alone_70
    rw [nI_1]
    refine ⟨fun e => ⟨fun z => absurd z (by decide), fun _ => ⟨fun z => absurd z (by decide), fun _ => ?_⟩⟩, fun e => ⟨fun hle => ⟨fun _ => ⟨fun _ => ?_, fun z => absurd rfl z⟩, fun z => absurd rfl z⟩, fun hle => ⟨fun z => absurd z (by decide), fun _ => ⟨fun z => absurd z (by decide), fun _ => ?_⟩⟩⟩⟩
    · rw [if_pos (Or.inl e)] at hq
      exact ih (k + 1) _ _ χ' (by omega) h' hq
    · rw [if_neg (show ¬ (f = -1 ∨ m < pp_try s.K s.c k r 0) from fun z => z.elim e (fun z => absurd hle (Int32.not_le.mpr z)))] at hq
      exact ih (k + 1) _ _ χ' (by omega) h' hq
    · rw [if_pos (Or.inr (Int32.not_le.mp hle))] at hq
      exact ih (k + 1) _ _ χ' (by omega) h' hq
theorem cs_alone {r : Nat} {w : Int32} (hr : r < 4) (h : RX χ s) (hq : ∀ χ', RX χ' s → Q (if w = 0 then (pp_al s.K s.c r s.g.1 0 (-1) (-1)).2 else (pp_al s.K s.c r s.g.1 0 (-1) (-1)).1) χ') : xxw_alone (nI r) w χ Q :=
  ⟨s.g.1 + 1, cs_alone_8 hr s.g.1 0 (-1) (-1) χ (by omega) h hq⟩
theorem cs_bare_7 {K : pp_K} {c0 : pp_C} {r : Nat} {χ0 χ1 : xx_S} (hr : r < 4) (h0 : cc_C χ0 K c0) (k1 : cc_kept χ1 0 K c0) (f1 : cc_fk 0 χ1 χ0) {X : Int32} (hq : ∀ χ', cc_C χ' K c0 → cc_ft χ' χ0 → Q X χ') :
    ∀ (d n : Nat) (c : pp_C) (χ : xx_S), n + d = 21 → cc_C χ K c → cc_fc χ χ1 → pp_ba K r d n c = X → xxw_bare_7 Q (d + 1) (nI r) (nI n) χ := by
  intro d
  induction d with
  | zero =>
    intro n c χ h1 hc hf hX
    obtain rfl : n = 21 := by omega
    have hX : (-1 : Int32) = X := hX
    unfold xxw_bare_7
    refine ⟨fun _ => cs_back0 h0 k1 f1 hc hf (fun χ' hc' ft _ _ => ?_), fun z => absurd (show (20 : Int32) < nI 21 by decide) z⟩
    rw [hX]
    exact hq χ' hc' ft
  | succ d ih =>
    intro n c χ h1 hc hf hX
    unfold xxw_bare_7
    rw [show (20 : Int32) = nI 20 from rfl, nI_ltI (by decide) (by omega), nI_1]
    unfold pp_ba at hX
    refine ⟨fun z => by omega, fun _ => cs_gapsOf hr (hc.2.2.1 r hr) ⟨fun e => ?_, fun e => ?_⟩⟩
    · rw [if_pos e] at hX
      refine cs_back0 h0 k1 f1 hc hf (fun χ' hc' ft _ _ => ?_)
      rw [hX]
      exact hq χ' hc' ft
    · rw [if_neg e] at hX
      exact cs_allGlean hr hc (fun χ2 hc2 f2 => cs_passes hc2 (fun χ3 hc3 f3 => ih (n + 1) _ χ3 (by omega) hc3 (cc_fc_tr f3 (cc_fc_tr f2 hf)) hX))
theorem cs_bare {K : pp_K} {c : pp_C} {r : Nat} (hr : r < 4) (h : cc_C χ K c) (hq : ∀ χ', cc_C χ' K c → cc_ft χ' χ → Q (pp_ba K r 21 0 c) χ') : xxw_bare (nI r) χ Q := by
  unfold xxw_bare
  exact cs_keeps (fr := 0) (by decide) h (fun χ1 k1 f1 => ⟨22, cs_bare_7 hr h k1 f1 hq 21 0 c χ1 (by decide) (cc_C_fk h f1 (by decide)) cc_fc_rf rfl⟩)
end CSG
