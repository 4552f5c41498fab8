/-! THE REFERENCE'S METHODS, on: parts, the longest, orders, what is best, one after the other -/
/-- a loop's steps, from k on -/
def pp_it {β : Type} (f : Nat → β → β) : Nat → Nat → β → β
  | 0, _, x => x
  | d + 1, k, x => pp_it f d (k + 1) (f k x)
section MU
variable {σ : gg_S} {s : pp_S} {Q : Int32 → gg_S → Prop}
/-! parts of a whole -/
def pp_low (a b : Nat) (w : Int32) : Int64 := if w = 0 then lN (a / Nat.gcd a b) else lN (b / Nat.gcd a b)
theorem ml_l0 : (0 : Int64) = lN 0 := by decide +kernel
theorem ms_lowest_6 {Q : Int64 → gg_S → Prop} {a b : Nat} {w : Int32} (ha : a < 2 ^ 62) (hb : b < 2 ^ 62) :
    ∀ (f x y : Nat), y < f → x < 2 ^ 62 → y < 2 ^ 62 → 0 < Nat.gcd x y → Q (if w = 0 then lN (a / Nat.gcd x y) else lN (b / Nat.gcd x y)) σ → mmw_lowest_6 Q f (lN a) (lN b) w (lN x) (lN y) σ := by
  intro f
  induction f with
  | zero => intro x y h; omega
  | succ f ih =>
    intro x y h hx hy hg hq
    unfold mmw_lowest_6
    rw [lg_cmp_eq, ml_l0, pk_lEQ (by omega) (by decide)]
    refine ⟨fun h0 => ?_, fun h0 => ?_⟩
    · subst h0
      rw [Nat.gcd_zero_right] at hg hq
      rw [pk_lEQ (by omega) (by decide), pk_lDiv (by omega) hg (by omega), pk_lDiv (by omega) hg (by omega)]
      refine ⟨fun e => ⟨by omega, ?_⟩, fun e => ⟨by omega, ?_⟩⟩
      · rw [if_pos e] at hq; exact hq
      · rw [if_neg e] at hq; exact hq
    · have hm := Nat.mod_lt x (show 0 < y by omega)
      have e : Nat.gcd y (x % y) = Nat.gcd x y := by
        rw [Nat.gcd_comm x y, Nat.gcd_rec y x]
        exact Nat.gcd_comm _ _
      rw [pk_lRem (by omega) (by omega) (by omega)]
      exact ⟨h0, ih y (x % y) (by omega) hy (by omega) (by rw [e]; exact hg) (by rw [e]; exact hq)⟩
theorem ms_lowest {Q : Int64 → gg_S → Prop} {a b : Nat} {w : Int32} (ha : a < 2 ^ 62) (hb : b < 2 ^ 62) (h : 0 < b) (hq : Q (pp_low a b w) σ) : mmw_lowest (lN a) (lN b) w σ Q :=
  ⟨b + 1, ms_lowest_6 ha hb (b + 1) a b (by omega) ha hb (Nat.gcd_pos_of_pos_right a h) hq⟩
theorem ml_pc_le : ∀ f L b : Nat, b < 2 ^ L → pp_pc f b ≤ L := by
  intro f
  induction f with
  | zero => intro L b _; exact Nat.zero_le _
  | succ f ih =>
    intro L b h
    unfold pp_pc
    cases L with
    | zero =>
      have hb : b = 0 := by
        rw [Nat.pow_zero] at h
        omega
      subst hb
      have := ih 0 0 (by decide)
      rw [Nat.zero_div, Nat.zero_mod]
      omega
    | succ L =>
      have := ih L (b / 2) (by rw [Nat.pow_succ] at h; omega)
      omega
theorem ml_left {L b : Nat} (h : b < 2 ^ L) : pp_left L b = nI (L - pp_pc 31 b) := pk_sub (ml_pc_le 31 L b h)
def pp_all (c : pp_C) : Nat := c.L 0 + c.L 1 + c.L 2 + c.L 3
def pp_some (c : pp_C) : Nat := pp_pc 31 (c.b 0) + pp_pc 31 (c.b 1) + pp_pc 31 (c.b 2) + pp_pc 31 (c.b 3)
def po_close (s : pp_S) (w : Int32) : Int64 := if (pp_ix w 2).isSome then (if pp_all s.c = 0 then -4611686018427387904 else pp_low (pp_some s.c) (pp_all s.c) w) else -4611686018427387904
theorem ms_close {Q : Int64 → gg_S → Prop} {w : Int32} (h : RM σ s) (hq : ∀ σ', RM σ' s → Q (po_close s w) σ') : mmw_close w σ Q := by
  have hq := hq σ h
  obtain ⟨a0, b0, c0, d0⟩ := h.1.2.2.1 0 (by decide)
  obtain ⟨a1, b1, c1, d1⟩ := h.1.2.2.1 1 (by decide)
  obtain ⟨a2, b2, c2, d2⟩ := h.1.2.2.1 2 (by decide)
  obtain ⟨a3, b3, c3, d3⟩ := h.1.2.2.1 3 (by decide)
  have p0 := ml_pc_le 31 _ _ d0
  have p1 := ml_pc_le 31 _ _ d1
  have p2 := ml_pc_le 31 _ _ d2
  have p3 := ml_pc_le 31 _ _ d3
  have hg : pp_gaps s.c = nI (pp_all s.c - pp_some s.c) := by
    unfold pp_gaps pp_all pp_some
    rw [ml_left d0, ml_left d1, ml_left d2, ml_left d3, nI_add, nI_add, nI_add]
    exact congrArg nI (by omega)
  have hle : pp_some s.c ≤ pp_all s.c ∧ pp_all s.c ≤ 96 := by
    unfold pp_all pp_some
    omega
  unfold po_close at hq
  unfold mmw_close
  rw [show (0 : Int32).toNatClampNeg = 0 from by decide, show (1 : Int32).toNatClampNeg = 1 from by decide, show (2 : Int32).toNatClampNeg = 2 from by decide, show (3 : Int32).toNatClampNeg = 3 from by decide,
    a0, a1, a2, a3, nI_add, nI_add, nI_add, show s.c.L 0 + s.c.L 1 + s.c.L 2 + s.c.L 3 = pp_all s.c from rfl]
  refine ⟨ml_in (n := 0) (by decide) (by decide), ml_in (n := 1) (by decide) (by decide), ml_in (n := 2) (by decide) (by decide), ml_in (n := 3) (by decide) (by decide), ms_lt (n := 2) (by decide) (by decide) (fun k hk e => ml_1 ?_) (fun e => ml_0 ?_)⟩
  · have e2 : (pp_ix w 2).isSome = true := by rw [e, pp_ix_some hk (by decide)]; rfl
    rw [if_pos e2] at hq
    rw [show (0 : Int32) = nI 0 from rfl, nI_leI (by omega) (by decide)]
    refine ⟨fun h0 => ?_, fun h0 => ms_gapsAll h.1 ?_⟩
    · rw [if_pos (by omega)] at hq
      exact hq
    · rw [if_neg (by omega)] at hq
      rw [hg, pk_sub (by omega), nI_l (by omega), nI_l (by omega), show pp_all s.c - (pp_all s.c - pp_some s.c) = pp_some s.c by omega]
      exact ms_lowest (by omega) (by omega) (by omega) hq
  · rw [pp_ix_none (by decide) e] at hq
    exact hq
/-! the longest run -/
def pp_lk (r : Nat) : List (Nat × Nat) → Nat → Int32 → Nat → Int32 × Nat
  | [], _, f, m => (f, m)
  | q :: l, k, f, m => if m < q.2 then pp_lk r l (k + 1) (nI (100 * r + k)) q.2 else pp_lk r l (k + 1) f m
def pp_lr (c : pp_C) : Nat → Nat → Int32 → Nat → Int32
  | 0, _, f, _ => f
  | d + 1, r, f, m => pp_lr c d (r + 1) (pp_lk r (pp_runs (c.b r) (c.L r)) 0 f m).1 (pp_lk r (pp_runs (c.b r) (c.L r)) 0 f m).2
def po_longest (s : pp_S) : Int32 := pp_lr s.c 4 0 (-1) 0
theorem pp_lk_le (r : Nat) : ∀ (l : List (Nat × Nat)) (k : Nat) (f : Int32) (m : Nat), (∀ q, q ∈ l → q.2 ≤ 24) → m ≤ 24 → (pp_lk r l k f m).2 ≤ 24 := by
  intro l
  induction l with
  | nil => intro k f m _ h; exact h
  | cons q l ih =>
    intro k f m hl h
    unfold pp_lk
    split
    · exact ih _ _ _ (fun z hz => hl z (List.mem_cons_of_mem _ hz)) (hl q List.mem_cons_self)
    · exact ih _ _ _ (fun z hz => hl z (List.mem_cons_of_mem _ hz)) h
theorem ml_100 (r k : Nat) : (100 : Int32) * nI r + nI k = nI (100 * r + k) := by
  rw [show (100 : Int32) = nI 100 from rfl, pk_mul, nI_add]
theorem ms_longest_21 {K6 : Int32 → Int32 → Int32 → gg_S → Prop} {all : List (Nat × Nat)} {r : Nat} (hal : all.length ≤ 24) (hsz : ∀ q, q ∈ all → q.2 ≤ 24) (hru : ma_runs σ all) :
    ∀ (rest : List (Nat × Nat)) (k : Nat) (f : Int32) (m : Nat), all.drop k = rest → k ≤ all.length → m ≤ 24 → K6 (pp_lk r rest k f m).1 (nI (pp_lk r rest k f m).2) (nI r + 1) σ → mmw_longest_21 Q K6 (rest.length + 1) f (nI m) (nI r) (nI all.length) (nI k) σ := by
  intro rest
  induction rest with
  | nil =>
    intro k f m h1 h2 h3 hq
    have : all.length ≤ k := by
      have := congrArg List.length h1
      rw [List.length_drop] at this
      simp at this
      omega
    unfold mmw_longest_21
    rw [nI_leI (by omega) (by omega)]
    exact ⟨fun _ => hq, fun z => absurd this z⟩
  | cons q rest ih =>
    intro k f m h1 h2 h3 hq
    have hk : k < all.length := by
      have := congrArg List.length h1
      rw [List.length_drop] at this
      simp at this
      omega
    have hg : all[k]? = some q := by
      have := congrArg (fun l => l[0]?) h1
      simpa using this
    have hmem : q ∈ all := List.mem_of_getElem? hg
    have h24 := hsz q hmem
    have hdr : all.drop (k + 1) = rest := by
      have := congrArg (List.drop 1) h1
      rw [List.drop_drop] at this
      simpa [Nat.add_comm] using this
    unfold mmw_longest_21
    rw [nI_leI (by omega) (by omega), ml_cl (by omega), (hru k q hg).2, nI_leI (by omega) (by omega), nI_1 k, ml_100]
    unfold pp_lk at hq
    refine ⟨fun z => by omega, fun _ => ⟨ml_in (by omega) (by decide), fun h => ?_, fun h => ⟨ml_in (by omega) (by decide), ?_⟩⟩⟩
    · rw [if_neg (by omega)] at hq
      exact ih (k + 1) f m hdr (by omega) h3 hq
    · rw [if_pos (by omega)] at hq
      exact ih (k + 1) _ q.2 hdr (by omega) h24 hq
theorem ms_longest_6 : ∀ (d r : Nat) (f : Int32) (m : Nat) (σ : gg_S), r + d = 4 → m ≤ 24 → RM σ s → (∀ σ', RM σ' s → Q (pp_lr s.c d r f m) σ') → mmw_longest_6 Q (d + 1) f (nI m) (nI r) σ := by
  intro d
  induction d with
  | zero =>
    intro r f m σ h1 h2 h hq
    unfold mmw_longest_6
    rw [show (4 : Int32) = nI 4 from rfl, nI_leI (by omega) (by omega)]
    exact ⟨fun _ => hq σ h, fun z => absurd (show 4 ≤ r by omega) z⟩
  | succ d ih =>
    intro r f m σ h1 h2 h hq
    have hrow := h.1.2.2.1 r (by omega)
    have hL := hrow.2.2.1
    have hlen : (pp_runs (s.c.b r) (s.c.L r)).length ≤ s.c.L r := pp_rn_len _ _ _ 0 (by omega)
    have hL' : s.c.L r ≤ 24 := hL
    have hsz : ∀ q, q ∈ pp_runs (s.c.b r) (s.c.L r) → q.2 ≤ 24 := fun q hm => by have := pp_runs_sz hm; omega
    unfold mmw_longest_6
    rw [show (4 : Int32) = nI 4 from rfl, nI_leI (by omega) (by omega)]
    refine ⟨fun z => by omega, fun _ => ms_runsOf (by omega) hrow (fun σ' hf hru => ⟨_, ms_longest_21 (by omega) hsz hru _ 0 f m rfl (Nat.zero_le _) h2 ?_⟩)⟩
    rw [nI_1]
    exact ih (r + 1) _ _ σ' (by omega) (pp_lk_le r _ 0 f m hsz h2) (RM_f89 h hf) hq
theorem ms_longest (h : RM σ s) (hq : ∀ σ', RM σ' s → Q (po_longest s) σ') : mmw_longest σ Q := ⟨5, ms_longest_6 4 0 (-1) 0 σ (by decide) (by decide) h hq⟩
/-! alone: who would take the most, and how much -/
def pp_al (K : pp_K) (c : pp_C) (r : Nat) : Nat → Nat → Int32 → Int32 → Int32 × Int32
  | 0, _, f, m => (f, m)
  | d + 1, k, f, m => if f = -1 ∨ m < pp_try K c k r 0 then pp_al K c r d (k + 1) (nI k) (pp_try K c k r 0) else pp_al K c r d (k + 1) f m
theorem ms_aloneOf_8 {r : Nat} {w : Int32} (hr : r < 4) (d : Nat) : ∀ (k : Nat) (f m : Int32) (σ : gg_S), k + d = s.g.1 → RM σ s → (∀ σ', RM σ' s → Q (if w = 2 then (pp_al s.K s.c r d k f m).1 else (pp_al s.K s.c r d k f m).2) σ') → mmw_aloneOf_8 Q (d + 1) (nI r) w f m (nI k) σ := by
  induction d with
  | zero =>
    intro k f m σ h1 h hq
    have hm' : s.g.1 ≤ 5 := h.1.1
    unfold mmw_aloneOf_8
    rw [h.1.2.1, nI_leI (show s.K.many < 2 ^ 31 from by show s.g.1 < 2 ^ 31; omega) (by omega)]
    refine ⟨fun _ => ⟨fun e => ?_, fun e => ?_⟩, fun z => absurd (show s.g.1 ≤ k by omega) z⟩
    · have := hq σ h
      rw [if_pos e] at this
      exact this
    · have := hq σ h
      rw [if_neg e] at this
      exact this
  | succ d ih =>
    intro k f m σ h1 h hq
    have hm' : s.g.1 ≤ 5 := h.1.1
    unfold mmw_aloneOf_8
    rw [h.1.2.1, nI_leI (show s.K.many < 2 ^ 31 from by show s.g.1 < 2 ^ 31; omega) (by omega)]
    refine ⟨fun z => absurd (show s.g.1 ≤ k from z) (by omega), fun _ => ms_triesOf h.1 (show k < s.g.1 by omega) hr (fun σ' e _ => ?_)⟩
    have h' := RM_th h e
    unfold pp_al at hq
    unfold mmw_aloneOf_39
    rw [nI_1]
    refine ⟨fun e => ?_, fun e => ⟨fun hle => ?_, fun hle => ?_⟩⟩
    · rw [if_pos (Or.inl e)] at hq
      exact ih (k + 1) _ _ σ' (by omega) h' hq
    · rw [if_neg (show ¬ (f = -1 ∨ m < pp_try s.K s.c k r 0) from fun z => z.elim e (fun z => absurd hle (Int32.not_le.mpr z)))] at hq
      exact ih (k + 1) _ _ σ' (by omega) h' hq
    · rw [if_pos (Or.inr (Int32.not_le.mp hle))] at hq
      exact ih (k + 1) _ _ σ' (by omega) h' hq
theorem ms_aloneOf {r : Nat} {w : Int32} (hr : r < 4) (h : RM σ s) (hq : ∀ σ', RM σ' s → Q (if w = 2 then (pp_al s.K s.c r s.g.1 0 (-1) (-1)).1 else (pp_al s.K s.c r s.g.1 0 (-1) (-1)).2) σ') : mmw_aloneOf (nI r) w σ Q :=
  ⟨s.g.1 + 1, ms_aloneOf_8 hr s.g.1 0 (-1) (-1) σ (by omega) h hq⟩
/-! bare: after how many nights nothing is left -/
def pp_ba (K : pp_K) (r : Nat) : Nat → Nat → pp_C → Int32
  | 0, _, _ => -1
  | d + 1, n, c => if pp_left (c.L r) (c.b r) = 0 then nI n else pp_ba K r d (n + 1) (pp_pass K (pp_alls K r K.many c))
theorem ms_bareOf_6 {K : pp_K} {r : Nat} {w s1 : gg_S} (hr : r < 4) (f1 : ∀ i k, i ≠ 14 → gg_g s1 i k = gg_g w i k) (w1 : mo_was s1 w) {X : Int32} (hq : ∀ σ', ma_th σ' w → Q X σ') :
    ∀ (d n : Nat) (c : pp_C) (σ : gg_S), n + d = 21 → ma_C σ K c → ma_fc σ s1 → pp_ba K r d n c = X → mmw_bareOf_6 Q (d + 1) (nI r) (nI n) σ := by
  intro d
  induction d with
  | zero =>
    intro n c σ h1 hc hf hX
    obtain rfl : n = 21 := by omega
    unfold mmw_bareOf_6
    refine ⟨fun _ => ?_, fun z => absurd (show (20 : Int32) < nI 21 by decide) z⟩
    unfold mmw_bareOf_32
    refine ms_laysBack f1 w1 hf (fun σ' ht _ => ⟨fun z => absurd z (by decide), fun _ => ?_⟩)
    have := hq σ' ht
    rw [← hX] at this
    exact this
  | succ d ih =>
    intro n c σ h1 hc hf hX
    unfold mmw_bareOf_6
    rw [show (20 : Int32) = nI 20 from rfl, nI_ltI (by decide) (by omega)]
    unfold pp_ba at hX
    refine ⟨fun z => by omega, fun _ => ms_leftOf (by omega) (hc.2.2.1 r hr) ⟨fun e => ?_, fun e => ?_⟩⟩
    · rw [if_pos (show pp_left (c.L r) (c.b r) = 0 from e)] at hX
      unfold mmw_bareOf_32
      refine ms_laysBack f1 w1 hf (fun σ' ht _ => ⟨fun _ => ?_, fun z => absurd ((nI_leI (a := n) (b := 20) (by omega) (by decide)).mpr (by omega)) z⟩)
      have := hq σ' ht
      rw [← hX] at this
      exact this
    · rw [if_neg (show ¬ pp_left (c.L r) (c.b r) = 0 from e)] at hX
      refine ms_gleanNights (n := 1) hr (by decide) hc (fun σ' hc' f' => ?_)
      rw [nI_1]
      exact ih (n + 1) _ σ' (by omega) hc' (ma_fc_tr f' hf) hX
theorem ms_bareOf {K : pp_K} {c : pp_C} {r : Nat} (hr : r < 4) (hc : ma_C σ K c) (hq : ∀ σ', ma_th σ' σ → Q (pp_ba K r 21 0 c) σ') : mmw_bareOf (nI r) σ Q := by
  unfold mmw_bareOf
  refine ms_laysAside (fun s1 f1 w1 => ⟨22, ms_bareOf_6 hr f1 w1 hq 21 0 c s1 (by decide) ?_ ma_fc_rf rfl⟩)
  exact ma_C_e1 (S := [14]) hc (fun i k _ b => f1 i k (fun z => b (by rw [z]; decide))) (by decide)
/-! orders: the best of all -/
def pp_lf (B : Option (Nat × Int32)) (dg : Nat) (v : Int32) : Option (Nat × Int32) := match B with
  | none => some (dg, v)
  | some q => if v ≤ q.2 then some q else some (dg, v)
def pp_os (K : pp_K) (r : Nat) (who : Option Nat) : Nat → Nat → pp_C → Nat → Int32 → Option (Nat × Int32) → Option (Nat × Int32)
  | 0 => fun _ c dg tk B => pp_lf B dg (if who = none then -(pp_left (c.L r) (c.b r)) else tk)
  | d + 1 => fun u c dg tk B => pp_it (fun p B => if u.testBit p then B else pp_os K r who d (u ||| 2 ^ p) (pp_gc K c p r) (10 * dg + p + 1) (if who = some p then Int32.ofInt (pp_gr K c p r).1.2.2.2 else tk) B) K.many 0 B
/-- how many of the first m are not in u -/
def pp_fr (u : Nat) : Nat → Nat
  | 0 => 0
  | m + 1 => pp_fr u m + (if u.testBit m then 0 else 1)
theorem pp_fr_eq {u v : Nat} : ∀ m : Nat, (∀ q, q < m → u.testBit q = v.testBit q) → pp_fr u m = pp_fr v m := by
  intro m
  induction m with
  | zero => intro _; rfl
  | succ m ih =>
    intro h
    unfold pp_fr
    rw [ih (fun q hq => h q (by omega)), h m (by omega)]
theorem pp_orb (u p q : Nat) : (u ||| 2 ^ p).testBit q = (u.testBit q || decide (p = q)) := by rw [Nat.testBit_or, Nat.testBit_two_pow]
theorem pp_fr_or {u p : Nat} (hu : u.testBit p = false) : ∀ m : Nat, p < m → pp_fr (u ||| 2 ^ p) m + 1 = pp_fr u m := by
  intro m
  induction m with
  | zero => intro h; omega
  | succ m ih =>
    intro h
    unfold pp_fr
    rw [pp_orb]
    by_cases e : p = m
    · subst e
      rw [pp_fr_eq (v := u) p (fun q hq => by rw [pp_orb]; simp; omega), hu]
      simp
    · have := ih (by omega)
      simp [e]
      omega
theorem pp_fr_0 {u : Nat} : ∀ m : Nat, pp_fr u m = 0 ↔ ∀ q, q < m → u.testBit q = true := by
  intro m
  induction m with
  | zero => exact ⟨fun _ q h => by omega, fun _ => rfl⟩
  | succ m ih =>
    unfold pp_fr
    constructor
    · intro h q hq
      by_cases e : q = m
      · subst e
        cases hb : u.testBit q with
        | true => rfl
        | false => rw [hb] at h; simp at h
      · exact (ih.mp (by omega)) q (by omega)
    · intro h
      rw [ih.mpr (fun q hq => h q (by omega)), h m (by omega)]
      rfl
theorem pp_full {u m : Nat} (hu : u < 2 ^ m) : u = 2 ^ m - 1 ↔ pp_fr u m = 0 := by
  rw [pp_fr_0]
  constructor
  · intro h q hq
    rw [h, Nat.testBit_two_pow_sub_one]
    simp [hq]
  · intro h
    refine Nat.eq_of_testBit_eq (fun q => ?_)
    rw [Nat.testBit_two_pow_sub_one]
    by_cases hq : q < m
    · rw [h q hq]; simp [hq]
    · rw [Nat.testBit_lt_two_pow (Nat.lt_of_lt_of_le hu (Nat.pow_le_pow_right (by decide) (by omega)))]
      simp [hq]
theorem pp_it_some {β : Type} {f : Nat → Option β → Option β} (hf : ∀ k B, B.isSome → (f k B).isSome) : ∀ (d k : Nat) (B : Option β), (B.isSome ∨ ∃ p, k ≤ p ∧ p < k + d ∧ ∀ B, (f p B).isSome) → (pp_it f d k B).isSome := by
  intro d
  induction d with
  | zero =>
    intro k B h
    rcases h with h | ⟨p, h1, h2, h3⟩
    · exact h
    · omega
  | succ d ih =>
    intro k B h
    unfold pp_it
    refine ih (k + 1) _ ?_
    rcases h with h | ⟨p, h1, h2, h3⟩
    · exact Or.inl (hf k B h)
    · by_cases e : p = k
      · subst e; exact Or.inl (h3 B)
      · exact Or.inr ⟨p, by omega, by omega, h3⟩
theorem pp_lf_some {B : Option (Nat × Int32)} {dg : Nat} {v : Int32} : (pp_lf B dg v).isSome := by
  unfold pp_lf
  split
  · rfl
  · split <;> rfl
theorem pp_os_keep {K : pp_K} {r : Nat} {who : Option Nat} : ∀ (d u : Nat) (c : pp_C) (dg : Nat) (tk : Int32) (B : Option (Nat × Int32)), B.isSome → (pp_os K r who d u c dg tk B).isSome := by
  intro d
  induction d with
  | zero => intro u c dg tk B _; exact pp_lf_some
  | succ d ih =>
    intro u c dg tk B h
    unfold pp_os
    refine pp_it_some (fun k B hB => ?_) _ _ _ (Or.inl h)
    split
    · exact hB
    · exact ih _ _ _ _ _ hB
theorem pp_os_some {K : pp_K} {r : Nat} {who : Option Nat} : ∀ (d u : Nat) (c : pp_C) (dg : Nat) (tk : Int32) (B : Option (Nat × Int32)), pp_fr u K.many = d → (pp_os K r who d u c dg tk B).isSome := by
  intro d
  induction d with
  | zero => intro u c dg tk B _; exact pp_lf_some
  | succ d ih =>
    intro u c dg tk B h
    have hex : ∃ p, p < K.many ∧ u.testBit p = false := by
      refine Classical.byContradiction (fun hn => ?_)
      have : pp_fr u K.many = 0 := (pp_fr_0 _).mpr (fun q hq => by
        cases hb : u.testBit q with
        | true => rfl
        | false => exact absurd ⟨q, hq, hb⟩ hn)
      omega
    obtain ⟨p, hp, hb⟩ := hex
    unfold pp_os
    refine pp_it_some (fun k B hB => ?_) _ _ _ (Or.inr ⟨p, Nat.zero_le _, by omega, fun B => ?_⟩)
    · split
      · exact hB
      · exact pp_os_keep _ _ _ _ _ _ hB
    · rw [hb, if_neg (by decide)]
      exact ih _ _ _ _ _ (by have := pp_fr_or hb K.many hp; omega)
/-- the best so far -/
def mb_b (σ : gg_S) : Option (Nat × Int32) → Prop
  | none => gg_g σ 0 35 = -1
  | some q => gg_g σ 0 35 = nI q.1 ∧ gg_g σ 0 36 = q.2 ∧ q.1 < 2 ^ 30
theorem mb_b_of {x y : gg_S} {B : Option (Nat × Int32)} (h : mb_b x B) (e1 : gg_g y 0 35 = gg_g x 0 35) (e2 : gg_g y 0 36 = gg_g x 0 36) : mb_b y B := by
  cases B with
  | none => unfold mb_b at h ⊢; rw [e1]; exact h
  | some q => unfold mb_b at h ⊢; rw [e1, e2]; exact h
/-- as ma_fc, but the best may be another -/
def ma_fb (σ' σ : gg_S) : Prop := ∀ i k, (i = 0 → k ∈ [3, 4, 6, 12, 40, 41, 42]) → i ∉ [8, 9, 10, 12, 13] → ¬ ((i = 4 ∨ i = 5) ∧ k < 5) → ¬ (i = 7 ∧ k % 2 = 1 ∧ k < 10) → gg_g σ' i k = gg_g σ i k
theorem ma_fb_rf {σ : gg_S} : ma_fb σ σ := fun _ _ _ _ _ _ => rfl
theorem ma_fb_tr {x y z : gg_S} (h1 : ma_fb x y) (h2 : ma_fb y z) : ma_fb x z := fun i k a b d e => (h1 i k a b d e).trans (h2 i k a b d e)
theorem ma_fb_fc {x y : gg_S} (h : ma_fc x y) : ma_fb x y := fun i k a b d e => h i k (fun z => ma_k1_of k (a z)) b d e
theorem ma_fb_0 {τ : gg_S} {k : Nat} {v : Int32} (h : k ∉ [3, 4, 6, 12, 40, 41, 42]) : ma_fb (gg_s τ 0 k v) τ := fun i q a _ _ _ => by
  rw [gg_gs, if_neg (fun z => h (by rw [← z.2]; exact a z.1))]
theorem ma_fb_4 {τ : gg_S} {i k : Nat} {v : Int32} (h : (i = 4 ∨ i = 5) ∧ k < 5) : ma_fb (gg_s τ i k v) τ := fun j q _ _ d _ => by
  rw [gg_gs, if_neg (fun z => d (by rw [z.1, z.2]; exact h))]
theorem ma_fb_7 {τ : gg_S} {k : Nat} {v : Int32} (h : k < 5) : ma_fb (gg_s τ 7 (2 * k + 1) v) τ := fun j q _ _ _ e => by
  rw [gg_gs, if_neg (fun z => e ⟨z.1, by omega, by omega⟩)]
theorem ma_out_fb {x y : gg_S} (h : ma_fb x y) : ma_out x y := fun i k a b => by
  have key : ∀ i, i ∈ [0, 1, 2, 3, 15, 16, 17, 18, 19, 20, 21] → i ∉ [8, 9, 10, 12, 13] ∧ i ≠ 4 ∧ i ≠ 5 ∧ i ≠ 7 := by decide
  obtain ⟨k1, k2, k3, k4⟩ := key i b
  exact h i k a k1 (fun z => z.1.elim k2 k3) (fun z => k4 z.1)
/-- the core rests on these alone -/
theorem ma_C_of {x y : gg_S} {K : pp_K} {c : pp_C} (h : ma_C x K c) (e0 : ∀ k, k ∈ [4, 7, 12] → gg_g y 0 k = gg_g x 0 k) (er : ∀ i, i ∈ [1, 2, 4, 5, 6, 7] → ∀ k, gg_g y i k = gg_g x i k) : ma_C y K c := by
  obtain ⟨k1, k2, k3, k4, k5, t, t1, t2, n, n1, n2, n3⟩ := h
  refine ⟨k1, by rw [e0 12 (by decide)]; exact k2, fun r hr => ?_, fun p hp => ?_, by rw [e0 7 (by decide)]; exact k5, t, t1, by rw [e0 4 (by decide)]; exact t2, n, n1, by rw [er 2 (by decide)]; exact n2, ?_⟩
  · have z := k3 r hr
    unfold ma_row at z ⊢
    rw [er 5 (by decide), er 4 (by decide)]
    exact z
  · have z := k4 p hp
    unfold ma_fo at z ⊢
    rw [er 6 (by decide), er 7 (by decide), er 7 (by decide)]
    exact z
  · rw [show (fun i => gg_g y 1 (160 * t + i)) = (fun i => gg_g x 1 (160 * t + i)) from funext fun i => er 1 (by decide) _]
    exact n3
/-- what one has gleaned is laid back -/
theorem ma_C_undo {x : gg_S} {K : pp_K} {c : pp_C} {p r : Nat} (h : ma_C x K (pp_gc K c p r)) (hr : c.L r ≤ 24 ∧ c.b r < 2 ^ c.L r) (ha : c.ap p ≤ 999) : ma_C (gg_s (gg_s (gg_s x 4 r (nI (c.b r))) 5 r (nI (c.L r))) 7 (2 * p + 1) (nI (c.ap p))) K c := by
  obtain ⟨k1, k2, k3, k4, k5, t, t1, t2, n, n1, n2, n3⟩ := h
  have hrow : ∀ i, i ≠ 4 → i ≠ 5 → i ≠ 7 → gg_g (gg_s (gg_s (gg_s x 4 r (nI (c.b r))) 5 r (nI (c.L r))) 7 (2 * p + 1) (nI (c.ap p))) i = gg_g x i := fun i a b d => by
    rw [gg_row _ _ _ _ d, gg_row _ _ _ _ b, gg_row _ _ _ _ a]
  refine ⟨k1, by rw [hrow 0 (by decide) (by decide) (by decide)]; exact k2, fun q hq => ?_, fun q hq => ?_, by rw [hrow 0 (by decide) (by decide) (by decide)]; exact k5, t, t1, by rw [hrow 0 (by decide) (by decide) (by decide)]; exact t2, n, n1, by rw [hrow 2 (by decide) (by decide) (by decide)]; exact n2, ?_⟩
  · by_cases e : q = r
    · subst e
      refine ⟨?_, ?_, hr⟩
      · rw [gg_row _ _ _ _ (show (5 : Nat) ≠ 7 by decide), gg_gs, if_pos ⟨rfl, rfl⟩]
      · rw [gg_row _ _ _ _ (show (4 : Nat) ≠ 7 by decide), gg_row _ _ _ _ (show (4 : Nat) ≠ 5 by decide), gg_gs, if_pos ⟨rfl, rfl⟩]
    · have z := k3 q hq
      rw [show (pp_gc K c p r).L q = c.L q from if_neg e, show (pp_gc K c p r).b q = c.b q from if_neg e] at z
      refine ⟨?_, ?_, z.2.2⟩
      · rw [gg_row _ _ _ _ (show (5 : Nat) ≠ 7 by decide), gg_gs, if_neg (fun w => e w.2), gg_row _ _ _ _ (show (5 : Nat) ≠ 4 by decide)]
        exact z.1
      · rw [gg_row _ _ _ _ (show (4 : Nat) ≠ 7 by decide), gg_row _ _ _ _ (show (4 : Nat) ≠ 5 by decide), gg_gs, if_neg (fun w => e w.2)]
        exact z.2.1
  · have z := k4 q hq
    obtain ⟨o1, o2, o3, o4, o5, o6⟩ := z
    refine ⟨by rw [hrow 6 (by decide) (by decide) (by decide)]; exact o1, ?_, ?_, o4, o5, ?_⟩
    · rw [gg_gs, if_neg (by omega), gg_row _ _ _ _ (show (7 : Nat) ≠ 5 by decide), gg_row _ _ _ _ (show (7 : Nat) ≠ 4 by decide)]
      exact o2
    · rw [gg_gs]
      by_cases e : q = p
      · rw [if_pos ⟨rfl, by omega⟩, e]
      · rw [if_neg (by omega), gg_row _ _ _ _ (show (7 : Nat) ≠ 5 by decide), gg_row _ _ _ _ (show (7 : Nat) ≠ 4 by decide)]
        rw [show (pp_gc K c p r).ap q = c.ap q from if_neg e] at o3
        exact o3
    · by_cases e : q = p
      · rw [e]; exact ha
      · rw [show (pp_gc K c p r).ap q = c.ap q from if_neg e] at o6
        exact o6
  · rw [show (fun i => gg_g (gg_s (gg_s (gg_s x 4 r (nI (c.b r))) 5 r (nI (c.L r))) 7 (2 * p + 1) (nI (c.ap p))) 1 (160 * t + i)) = (fun i => gg_g x 1 (160 * t + i)) from funext fun i => by rw [hrow 1 (by decide) (by decide) (by decide)]]
    exact n3
/-- none: -1 -/
def pp_who : Option Nat → Int32
  | none => -1
  | some p => nI p
abbrev ma_G : Type := Int32 → Int32 → Int32 → Int32 → Int32 → gg_S → (gg_S → Prop) → Prop
/-- what the search below may be asked, with d not yet in -/
def mb_G (K : pp_K) (r : Nat) (who : Option Nat) (d : Nat) (G : ma_G) : Prop := ∀ (u : Nat) (c : pp_C) (dg : Nat) (tk : Int32) (B : Option (Nat × Int32)) (σ : gg_S) (Q : gg_S → Prop), ma_C σ K c → mb_b σ B → u < 2 ^ K.many → pp_fr u K.many = d → dg + 1 ≤ 10 ^ (5 - d) →
  (∀ σ', ma_C σ' K c → ma_fb σ' σ → mb_b σ' (pp_os K r who d u c dg tk B) → Q σ') → G (nI r) (pp_who who) (nI u) (nI dg) tk σ Q
theorem ms_orders_28 {G : ma_G} {Q : gg_S → Prop} {dg : Nat} {v : Int32} {B : Option (Nat × Int32)} {σ : gg_S} {K : pp_K} {c : pp_C} (hc : ma_C σ K c) (hB : mb_b σ B) (hdg : dg < 2 ^ 30) (hq : ∀ σ', ma_C σ' K c → ma_fb σ' σ → mb_b σ' (pp_lf B dg v) → Q σ') : mmw_orders_28 G Q (nI dg) v σ := by
  have new : mb_b (gg_s (gg_s σ 0 35 (nI dg)) 0 36 v) (some (dg, v)) := ⟨by rw [gg_ot (by decide), gg_me], gg_me, hdg⟩
  have hc2 : ma_C (gg_s (gg_s σ 0 35 (nI dg)) 0 36 v) K c := ma_C_of hc (fun k hk => by rw [gg_ot (fun z => absurd hk (by rw [z]; decide)), gg_ot (fun z => absurd hk (by rw [z]; decide))]) (fun i hi k => by rw [gg_row _ _ _ _ (fun z => absurd hi (by rw [z]; decide)), gg_row _ _ _ _ (fun z => absurd hi (by rw [z]; decide))])
  have hf2 : ma_fb (gg_s (gg_s σ 0 35 (nI dg)) 0 36 v) σ := ma_fb_tr (ma_fb_0 (by decide)) (ma_fb_0 (by decide))
  unfold mmw_orders_28 mmw_orders_47
  cases B with
  | none =>
    refine ⟨fun _ => ?_, fun z => absurd hB z⟩
    rintro _ rfl _ rfl
    exact hq _ hc2 hf2 new
  | some q =>
    obtain ⟨h1, h2, h3⟩ := hB
    refine ⟨fun z => ?_, fun _ => ?_⟩
    · rw [h1] at z
      have := congrArg Int32.toInt z
      rw [nI_toInt (by omega), show (-1 : Int32).toInt = -1 by decide] at this
      omega
    · rw [h2]
      unfold pp_lf at hq
      dsimp only at hq
      refine ⟨fun hv => ?_, fun hv => ?_⟩
      · rw [if_pos hv] at hq
        exact hq σ hc ma_fb_rf ⟨h1, h2, h3⟩
      · rw [if_neg hv] at hq
        rintro _ rfl _ rfl
        exact hq _ hc2 hf2 new
theorem ms_orders_79 {K : pp_K} {r : Nat} {who : Option Nat} {d : Nat} {G : ma_G} (hG : mb_G K r who d G) (hr : r < 4) {Q : gg_S → Prop} {u dg : Nat} {tk : Int32} {c : pp_C} {σ0 : gg_S} (hu : u < 2 ^ K.many) (hd : pp_fr u K.many = d + 1) (hd5 : d + 1 ≤ 5) (hdg : dg + 1 ≤ 10 ^ (5 - (d + 1)))
    (hm : K.many ≤ 5) (hw31 : ∀ p, who = some p → p < 2 ^ 31) {X : Option (Nat × Int32)} (hq : ∀ σ', ma_C σ' K c → ma_fb σ' σ0 → mb_b σ' X → Q σ') :
    ∀ (j k : Nat) (B : Option (Nat × Int32)) (σ : gg_S), k + j = K.many → ma_C σ K c → ma_fb σ σ0 → mb_b σ B →
      pp_it (fun p B => if u.testBit p then B else pp_os K r who d (u ||| 2 ^ p) (pp_gc K c p r) (10 * dg + p + 1) (if who = some p then Int32.ofInt (pp_gr K c p r).1.2.2.2 else tk) B) j k B = X →
      mmw_orders_79 G Q (j + 1) (nI r) (pp_who who) (nI u) (nI dg) tk (nI (c.b r)) (nI (c.L r)) (nI k) σ := by
  have h32 : (2 : Nat) ^ K.many ≤ 2 ^ 5 := Nat.pow_le_pow_right (by decide) hm
  have h10 : (10 : Nat) ^ (5 - d) = 10 * 10 ^ (5 - (d + 1)) := by
    rw [show 5 - d = (5 - (d + 1)) + 1 by omega, Nat.pow_succ, Nat.mul_comm]
  have h105 : (10 : Nat) ^ (5 - (d + 1)) ≤ 10 ^ 5 := Nat.pow_le_pow_right (by decide) (by omega)
  intro j
  induction j with
  | zero =>
    intro k B σ h1 hc hf hB hX
    unfold mmw_orders_79
    rw [hc.2.1, nI_leI (by omega) (by omega)]
    exact ⟨fun _ => hq σ hc hf (by rw [← hX]; exact hB), fun z => absurd (show K.many ≤ k by omega) z⟩
  | succ j ih =>
    intro k B σ h1 hc hf hB hX
    have hc0 := hc
    obtain ⟨k1, k2, k3, k4, k5, k6⟩ := hc0
    unfold pp_it at hX
    unfold mmw_orders_79
    rw [k2, nI_leI (by omega) (by omega), ml_bit (by omega) (by omega), nI_1]
    refine ⟨fun z => by omega, fun _ => ⟨fun hbit => ?_, fun hbit => ?_⟩⟩
    · have hb : u.testBit k = false := by
        cases e : u.testBit k with
        | false => rfl
        | true => rw [e, if_pos rfl] at hbit; exact absurd hbit (by decide)
      rw [hb, if_neg (by decide)] at hX
      obtain ⟨o1, o2, o3, o4, o5, o6⟩ := k4 k (by omega)
      rw [ml_21]
      refine ⟨ml_in (by omega) (by decide), ms_gleansC hc (by omega) hr (fun σ1 hc1 _ f1 => ?_)⟩
      rw [ml_cl (by omega), o3]
      have hB1 : mb_b σ1 B := mb_b_of hB (f1 0 35 (fun _ => by decide) (by decide) (by omega) (by omega)) (f1 0 36 (fun _ => by decide) (by decide) (by omega) (by omega))
      have go : ∀ tk', (if who = some k then Int32.ofInt (pp_gr K c k r).1.2.2.2 else tk) = tk' → mmw_orders_151 G Q (fun y0 y1 y2 y3 y4 y5 y6 y7 τ => mmw_orders_79 G Q (j + 1) y0 y1 y2 y3 y4 y5 y6 y7 τ) (nI r) (pp_who who) (nI u) (nI dg) tk (nI (c.b r)) (nI (c.L r)) (nI k) (nI (c.ap k)) (nI r) (pp_who who) (nI u ||| ((1 : Int32) <<< (nI k &&& 31))) ((((10 : Int32) * nI dg) + nI k) + 1) tk' σ1 := by
        intro tk' htk
        rw [htk] at hX
        unfold mmw_orders_151
        rw [show (1 : Int32) <<< (nI k &&& 31) = nI (2 ^ k) from by rw [show (1 : Int32) = nI 1 from rfl, ml_shl (by omega) (by have : (2 : Nat) ^ k ≤ 2 ^ 5 := Nat.pow_le_pow_right (by decide) (by omega); omega), Nat.one_mul], ml_or, show (10 : Int32) = nI 10 from rfl, pk_mul, nI_add, nI_1]
        refine hG (u ||| 2 ^ k) (pp_gc K c k r) (10 * dg + k + 1) tk' B σ1 _ hc1 hB1 (Nat.or_lt_two_pow hu (Nat.pow_lt_pow_right (by decide) (by omega))) (by have := pp_fr_or hb K.many (by omega); omega) (by rw [h10]; omega) (fun σ2 hc2 f2 hB2 => ?_)
        refine ⟨ml_in (by omega) (by decide), ?_⟩
        rintro _ rfl
        refine ⟨ml_in (by omega) (by decide), ?_⟩
        rintro _ rfl
        rw [ml_21, ml_cl (by omega), ml_cl (by omega), nI_1]
        refine ⟨ml_in (by omega) (by decide), ?_⟩
        rintro _ rfl
        have hrr := (k3 r hr).2.2
        refine ih (k + 1) _ _ (by omega) (ma_C_undo hc2 hrr o6) (ma_fb_tr (ma_fb_7 (by omega)) (ma_fb_tr (ma_fb_4 ⟨Or.inr rfl, by omega⟩) (ma_fb_tr (ma_fb_4 ⟨Or.inl rfl, by omega⟩) (ma_fb_tr f2 (ma_fb_tr (ma_fb_fc f1) hf))))) (mb_b_of hB2 ?_ ?_) hX
        · rw [gg_row _ _ _ _ (show (0 : Nat) ≠ 7 by decide), gg_row _ _ _ _ (show (0 : Nat) ≠ 5 by decide), gg_row _ _ _ _ (show (0 : Nat) ≠ 4 by decide)]
        · rw [gg_row _ _ _ _ (show (0 : Nat) ≠ 7 by decide), gg_row _ _ _ _ (show (0 : Nat) ≠ 5 by decide), gg_row _ _ _ _ (show (0 : Nat) ≠ 4 by decide)]
      have hwho : nI k = pp_who who ↔ who = some k := by
        cases who with
        | none =>
          refine ⟨fun z => ?_, fun z => by cases z⟩
          have := congrArg Int32.toInt z
          rw [nI_toInt (by omega), show (pp_who none).toInt = -1 from by decide] at this
          omega
        | some p =>
          constructor
          · intro z
            have z : nI k = nI p := z
            have hk : k = p ∨ 2 ^ 31 ≤ p := by
              by_cases hp : p < 2 ^ 31
              · exact Or.inl ((nI_eq (by omega) hp).mp z)
              · exact Or.inr (by omega)
            rcases hk with e | e
            · rw [e]
            · exact absurd e (by have := hw31 p rfl; omega)
          · intro z
            cases z
            rfl
      refine ⟨fun e => go _ (if_pos (hwho.mp e)), fun e => go _ (if_neg (fun z => e (hwho.mpr z)))⟩
    · have hb : u.testBit k = true := by
        cases e : u.testBit k with
        | true => rfl
        | false => rw [e] at hbit; exact absurd rfl hbit
      rw [hb, if_pos rfl] at hX
      exact ih (k + 1) B σ (by omega) hc hf hB hX
theorem ms_orders {K : pp_K} {r : Nat} {who : Option Nat} (hr : r < 4) (hm : K.many ≤ 5) (hw31 : ∀ p, who = some p → p < 2 ^ 31) : ∀ f d : Nat, d < f → d ≤ 5 → mb_G K r who d (mmw_g_orders f) := by
  intro f
  induction f with
  | zero => intro d h; omega
  | succ f ih =>
    intro d h h5 u c dg tk B σ Q hc hB hu hd hdg hq
    have h32 : (2 : Nat) ^ K.many ≤ 2 ^ 5 := Nat.pow_le_pow_right (by decide) hm
    have h105 : (10 : Nat) ^ (5 - d) ≤ 10 ^ 5 := Nat.pow_le_pow_right (by decide) (by omega)
    have hp0 := Nat.two_pow_pos K.many
    have hdg30 : dg < 2 ^ 30 := by omega
    show mmw_orders (mmw_g_orders f) (nI r) (pp_who who) (nI u) (nI dg) tk σ Q
    have hfull : ((1 : Int32) <<< (nI K.many &&& 31)) - 1 = nI (2 ^ K.many - 1) := by rw [show (1 : Int32) = nI 1 from rfl, ml_shl (by omega) (by omega), Nat.one_mul, pk_sub (by omega)]
    unfold mmw_orders
    rw [hc.2.1, hfull, nI_eq (by omega) (by omega), pp_full hu, hd]
    have hw : pp_who who = -1 ↔ who = none := by
      cases who with
      | none => exact ⟨fun _ => rfl, fun _ => rfl⟩
      | some p =>
        refine ⟨fun z => ?_, fun z => by cases z⟩
        have := congrArg Int32.toInt z
        rw [show pp_who (some p) = nI p from rfl, nI_toInt (hw31 p rfl), show (-1 : Int32).toInt = -1 by decide] at this
        omega
    rw [hw]
    obtain ⟨r1, r2, r3, r4⟩ := hc.2.2.1 r hr
    refine ⟨fun e => ?_, fun e => ?_⟩
    · subst e
      unfold pp_os at hq
      refine ⟨fun e => ms_leftOf (by omega) (hc.2.2.1 r hr) ?_, fun e => ?_⟩
      · rw [if_pos e] at hq
        exact ms_orders_28 hc hB hdg30 hq
      · rw [if_neg e] at hq
        exact ms_orders_28 hc hB hdg30 hq
    · obtain ⟨d, rfl⟩ : ∃ d', d = d' + 1 := ⟨d - 1, by omega⟩
      rw [ml_cl (by omega), r1, r2]
      refine ⟨ml_in (by omega) (by decide), ml_in (by omega) (by decide), K.many + 1, ?_⟩
      exact ms_orders_79 (ih d (by omega) (by omega)) hr hu hd h5 hdg hm hw31 (X := pp_os K r who (d + 1) u c dg tk B) (fun σ' h1 h2 h3 => hq σ' h1 h2 h3) K.many 0 B σ (by omega) hc ma_fb_rf hB rfl
theorem pp_fr_z (m : Nat) : pp_fr 0 m = m := by
  induction m with
  | zero => rfl
  | succ m ih => unfold pp_fr; rw [ih, Nat.zero_testBit]; rfl
/-- all orders, the best -/
def pp_best (K : pp_K) (c : pp_C) (r : Nat) (who : Option Nat) : Nat × Int32 := (pp_os K r who K.many 0 c 0 0 none).getD (0, 0)
theorem ms_allOrders {who : Option Nat} {r : Nat} {Q : gg_S → Prop} (hr : r < 4) (hw : ∀ p, who = some p → p < 2 ^ 31) (h : RM σ s) (hq : ∀ σ', RM σ' s → gg_g σ' 0 35 = nI (pp_best s.K s.c r who).1 → gg_g σ' 0 36 = (pp_best s.K s.c r who).2 → Q σ') :
    ∀ σ7 : gg_S, σ7 = gg_s σ 0 35 (-1) → ∀ σ8 : gg_S, σ8 = gg_s σ7 0 36 0 → mmw_g_orders 6 (nI r) (pp_who who) 0 0 0 σ8 Q := by
  rintro _ rfl _ rfl
  have hm : s.K.many ≤ 5 := h.1.1
  have hc : ma_C (gg_s (gg_s σ 0 35 (-1)) 0 36 0) s.K s.c := ma_C_of h.1 (fun k hk => by rw [gg_ot (fun z => absurd hk (by rw [z]; decide)), gg_ot (fun z => absurd hk (by rw [z]; decide))]) (fun i hi k => by rw [gg_row _ _ _ _ (fun z => absurd hi (by rw [z]; decide)), gg_row _ _ _ _ (fun z => absurd hi (by rw [z]; decide))])
  have hs := pp_os_some (K := s.K) (r := r) (who := who) s.K.many 0 s.c 0 0 none (pp_fr_z _)
  refine ms_orders hr hm hw 6 s.K.many (by omega) hm 0 s.c 0 0 none _ Q hc (by show gg_g _ 0 35 = -1; rw [gg_ot (by decide), gg_me]) (Nat.two_pow_pos _) (pp_fr_z _) (Nat.pow_pos (by decide)) (fun σ' h1 h2 h3 => ?_)
  obtain ⟨q, eq⟩ := Option.isSome_iff_exists.mp hs
  have hb : pp_best s.K s.c r who = q := by unfold pp_best; rw [eq]; rfl
  rw [eq] at h3
  obtain ⟨g1, g2, _⟩ := h3
  have hf : ma_fb σ' σ := ma_fb_tr h2 (ma_fb_tr (ma_fb_0 (by decide)) (ma_fb_0 (by decide)))
  refine hq σ' (RM_core (c := s.c) h (ma_out_fb hf) h1 h.2.1) ?_ ?_
  · rw [hb]; exact g1
  · rw [hb]; exact g2
def po_first (s : pp_S) (one row w : Int32) : Int32 := match pp_ix one s.g.1 with
  | none => -1000
  | some p => match pp_ix row 4 with
    | none => -1000
    | some r => if (pp_ix w 2).isSome then (if w = 0 then nI (pp_best s.K s.c r (some p)).1 else (pp_best s.K s.c r (some p)).2) else -1000
theorem ms_first {one row w : Int32} (h : RM σ s) (hq : ∀ σ', RM σ' s → Q (po_first s one row w) σ') : mmw_first one row w σ Q := by
  have hm' : s.g.1 ≤ 5 := h.1.1
  unfold po_first at hq
  unfold mmw_first
  refine ms_isOne (n := s.g.1) h.1.2.1 hm' (fun p hp e => ml_1 ?_) (fun e => ml_0 ?_)
  · subst e
    rw [pp_ix_some (n := s.g.1) hp (by omega)] at hq
    refine ms_isRow (fun r hr e => ml_1 ?_) (fun e => ml_0 ?_)
    · subst e
      rw [pp_ix_some hr (by decide)] at hq
      dsimp only at hq
      refine ms_lt (n := 2) (by decide) (by decide) (fun k hk e => ml_1 ?_) (fun e => ml_0 ?_)
      · have e2 : (pp_ix w 2).isSome = true := by rw [e, pp_ix_some hk (by decide)]; rfl
        rw [if_pos e2] at hq
        refine ms_allOrders (who := some p) hr (fun q hq => by cases hq; omega) h (fun σ' h' g1 g2 => ⟨fun e => ?_, fun e => ?_⟩)
        · have := hq σ' h'
          rw [if_pos e] at this
          rw [g1]; exact this
        · have := hq σ' h'
          rw [if_neg e] at this
          rw [g2]; exact this
      · rw [pp_ix_none (by decide) e] at hq
        exact hq σ h
    · rw [pp_ix_none (by decide) e] at hq
      exact hq σ h
  · rw [pp_ix_none (n := s.g.1) (by omega) e] at hq
    exact hq σ h
def po_best (s : pp_S) (row w : Int32) : Int32 := match pp_ix row 4 with
  | none => -1000
  | some r => if (pp_ix w 5).isSome then (if w = 0 then nI (pp_best s.K s.c r none).1 else if w = 1 then -(pp_best s.K s.c r none).2
      else if w = 2 then (pp_al s.K s.c r s.g.1 0 (-1) (-1)).1 else if w = 3 then (pp_al s.K s.c r s.g.1 0 (-1) (-1)).2 else pp_ba s.K r 21 0 s.c) else -1000
theorem ms_best {row w : Int32} (h : RM σ s) (hq : ∀ σ', RM σ' s → Q (po_best s row w) σ') : mmw_best row w σ Q := by
  unfold po_best at hq
  unfold mmw_best
  refine ms_isRow (fun r hr e => ml_1 ?_) (fun e => ml_0 ?_)
  · subst e
    rw [pp_ix_some hr (by decide)] at hq
    dsimp only at hq
    refine ms_lt (n := 5) (by decide) (by decide) (fun k hk e => ml_1 ?_) (fun e => ml_0 ?_)
    · have e2 : (pp_ix w 5).isSome = true := by rw [e, pp_ix_some hk (by decide)]; rfl
      rw [if_pos e2] at hq
      subst e
      rcases (show k = 0 ∨ k = 1 ∨ k = 2 ∨ k = 3 ∨ k = 4 by omega) with rfl | rfl | rfl | rfl | rfl
      · rw [if_pos (by decide)] at hq
        refine ⟨fun _ => ms_allOrders (who := none) hr (fun q hq => by cases hq) h (fun σ' h' g1 g2 => ⟨fun _ => ?_, fun z => absurd (by decide) z⟩), fun z => absurd (by decide) z⟩
        rw [g1]; exact hq σ' h'
      · rw [if_neg (by decide), if_pos (by decide)] at hq
        refine ⟨fun _ => ms_allOrders (who := none) hr (fun q hq => by cases hq) h (fun σ' h' g1 g2 => ⟨fun z => absurd z (by decide), fun _ => ?_⟩), fun z => absurd (by decide) z⟩
        rw [g2]; exact hq σ' h'
      · rw [if_neg (by decide), if_neg (by decide), if_pos (by decide)] at hq
        refine ⟨fun z => absurd z (by decide), fun _ => ⟨fun z => absurd z (by decide), fun _ => ms_aloneOf hr h (fun σ' h' => ?_)⟩⟩
        rw [if_pos (by decide)]
        exact hq σ' h'
      · rw [if_neg (by decide), if_neg (by decide), if_neg (by decide), if_pos (by decide)] at hq
        refine ⟨fun z => absurd z (by decide), fun _ => ⟨fun z => absurd z (by decide), fun _ => ms_aloneOf hr h (fun σ' h' => ?_)⟩⟩
        rw [if_neg (by decide)]
        exact hq σ' h'
      · rw [if_neg (by decide), if_neg (by decide), if_neg (by decide), if_neg (by decide)] at hq
        refine ⟨fun z => absurd z (by decide), fun _ => ⟨fun _ => ms_bareOf hr h.1 (fun σ' e => hq σ' (RM_th h e)), fun z => absurd (by decide) z⟩⟩
    · rw [pp_ix_none (by decide) e] at hq
      exact hq σ h
  · rw [pp_ix_none (by decide) e] at hq
    exact hq σ h
/-! one after the other, in a told order -/
/-- the digits from the right: whether all are gleaners, and which came -/
def pp_seen (m : Nat) : Nat → Nat → Nat → Option Nat
  | 0, n, u => if n = 0 then some u else none
  | d + 1, n, u => if 1 ≤ n % 10 ∧ n % 10 ≤ m then pp_seen m d (n / 10) (u ||| 2 ^ (n % 10 - 1)) else none
def pp_okO (m : Nat) (x : Int32) : Bool := decide (0 ≤ x.toInt) && decide (pp_seen m m x.toInt.toNat 0 = some (2 ^ m - 1))
/-- who is k-th in the order n -/
def pp_dg (m n k : Nat) : Nat := n / 10 ^ (m - 1 - k) % 10 - 1
theorem ml_div10 {n : Nat} (hn : n < 2 ^ 31) : nI n / 10 = nI (n / 10) := pk_div (a := n) (d := 10) hn (by decide) (by decide)
theorem ml_rem10 {n : Nat} (hn : n < 2 ^ 31) : nI n - nI n / 10 * 10 = nI (n % 10) := pk_rem (a := n) (d := 10) hn (by decide) (by decide)
theorem ms_isOrder_12 {m n : Nat} {x : Int32} {σ0 : gg_S} (hm : m ≤ 5) (hn : n < 2 ^ 31) (hx : ¬ x < 0) (h12 : gg_g σ0 0 12 = nI m)
    (h1 : (∃ q, pp_seen m m n 0 = some q ∧ q = 2 ^ m - 1) → ∀ σ', (∀ i k, i ≠ 11 → gg_g σ' i k = gg_g σ0 i k) → (∀ k, k < m → gg_g σ' 11 k = nI (pp_dg m n k) ∧ pp_dg m n k < m) → Q 1 σ')
    (h0 : ¬ (∃ q, pp_seen m m n 0 = some q ∧ q = 2 ^ m - 1) → ∀ σ', (∀ i k, i ≠ 11 → gg_g σ' i k = gg_g σ0 i k) → Q 0 σ') :
    ∀ (j u : Nat) (σ : gg_S), j ≤ m → u < 2 ^ m → (∀ i k, i ≠ 11 → gg_g σ i k = gg_g σ0 i k) → (∀ k, j ≤ k → k < m → gg_g σ 11 k = nI (pp_dg m n k) ∧ pp_dg m n k < m) → pp_seen m m n 0 = pp_seen m j (n / 10 ^ (m - j)) u →
      mmw_isOrder_12 Q (j + 1) x (nI u) (nI (n / 10 ^ (m - j))) (nI j - 1) σ := by
  have h32 : (2 : Nat) ^ m ≤ 2 ^ 5 := Nat.pow_le_pow_right (by decide) hm
  have hp0 := Nat.two_pow_pos m
  intro j
  induction j with
  | zero =>
    intro u σ hj hu hf hd hs
    have hle : n / 10 ^ (m - 0) ≤ n := Nat.div_le_self _ _
    unfold mmw_isOrder_12
    have hfull : ((1 : Int32) <<< (nI m &&& 31)) - 1 = nI (2 ^ m - 1) := by rw [show (1 : Int32) = nI 1 from rfl, ml_shl (by omega) (by omega), Nat.one_mul, pk_sub (by omega)]
    have e0 : nI (n / 10 ^ (m - 0)) = 0 ↔ n / 10 ^ (m - 0) = 0 := nI_eq (b := 0) (by omega) (by decide)
    rw [hf 0 12 (by decide), h12, hfull, e0, nI_eq (by omega) (by omega)]
    rw [show pp_seen m 0 (n / 10 ^ (m - 0)) u = if n / 10 ^ (m - 0) = 0 then some u else none from rfl] at hs
    refine ⟨fun _ => ⟨fun e => ⟨fun e2 => ?_, fun e2 => ?_⟩, fun e => ?_⟩, fun z => absurd (by decide) z⟩
    · rw [if_pos e] at hs
      exact h1 ⟨u, hs, e2⟩ σ hf (fun k hk => hd k (Nat.zero_le _) hk)
    · rw [if_pos e] at hs
      exact h0 (fun ⟨q, q1, q2⟩ => e2 (by rw [hs] at q1; cases q1; exact q2)) σ hf
    · rw [if_neg e] at hs
      exact h0 (fun ⟨q, q1, q2⟩ => by rw [hs] at q1; cases q1) σ hf
  | succ j ih =>
    intro u σ hj hu hf hd hs
    have hle : n / 10 ^ (m - (j + 1)) ≤ n := Nat.div_le_self _ _
    generalize hN : n / 10 ^ (m - (j + 1)) = N at hle hs ⊢
    have hN10 : n / 10 ^ (m - j) = N / 10 := by
      rw [← hN, Nat.div_div_eq_div_mul, show m - j = m - (j + 1) + 1 by omega, Nat.pow_succ]
    have hmod : N % 10 < 10 := Nat.mod_lt _ (by decide)
    unfold mmw_isOrder_12
    rw [show nI (j + 1) - 1 = nI j from nI_pred j, ml_rem10 (by omega), ml_div10 (by omega), ml_cl (by omega)]
    refine ⟨fun z => absurd z (nI_pos (by omega)), fun _ => ⟨ml_in (by omega) (by decide), ?_⟩⟩
    rintro _ rfl
    have hf1 : ∀ v i k, i ≠ 11 → gg_g (gg_s σ 11 j v) i k = gg_g σ0 i k := fun v i k hi => by rw [gg_row _ _ _ _ hi]; exact hf i k hi
    refine ⟨fun z => absurd z hx, fun _ => ⟨ml_in (by omega) (by decide), ?_⟩⟩
    rw [gg_gs, if_pos ⟨rfl, rfl⟩]
    rw [show pp_seen m (j + 1) N u = if 1 ≤ N % 10 ∧ N % 10 ≤ m then pp_seen m j (N / 10) (u ||| 2 ^ (N % 10 - 1)) else none from rfl] at hs
    refine ms_isOne (n := m) (by rw [hf1 _ 0 12 (by decide)]; exact h12) hm (fun p hp e => ml_1 ?_) (fun e => ml_0 ?_)
    · have hp1 : N % 10 = p + 1 := by
        have h2 : nI (N % 10) = nI (p + 1) := by
          rw [← nI_1, ← e, Int32.sub_add_cancel]
        exact (nI_eq (by omega) (by omega)).mp h2
      rw [if_pos (by omega), show N % 10 - 1 = p by omega] at hs
      rw [e]
      refine ⟨ml_in (by omega) (by decide), ?_⟩
      rw [gg_gs, if_pos ⟨rfl, rfl⟩, show (1 : Int32) <<< (nI p &&& 31) = nI (2 ^ p) from by rw [show (1 : Int32) = nI 1 from rfl, ml_shl (by omega) (by have : (2 : Nat) ^ p ≤ 2 ^ 5 := Nat.pow_le_pow_right (by decide) (by omega); omega), Nat.one_mul], ml_or, show nI j + (-1) = nI j - 1 from (Int32.sub_eq_add_neg _ _).symm, ← hN10]
      refine ih (u ||| 2 ^ p) _ (by omega) (Nat.or_lt_two_pow hu (Nat.pow_lt_pow_right (by decide) hp)) (hf1 _) (fun k hk hkm => ?_) (by rw [hN10]; exact hs)
      by_cases ek : k = j
      · subst ek
        rw [gg_gs, if_pos ⟨rfl, rfl⟩]
        have : pp_dg m n k = p := by
          unfold pp_dg
          rw [show m - 1 - k = m - (k + 1) by omega, hN]
          omega
        rw [this]
        exact ⟨rfl, hp⟩
      · rw [gg_gs, if_neg (fun z => ek z.2)]
        exact hd k (by omega) hkm
    · refine h0 (fun ⟨q, q1, q2⟩ => ?_) _ (hf1 _)
      rw [hs] at q1
      by_cases hc : 1 ≤ N % 10 ∧ N % 10 ≤ m
      · refine e (N % 10 - 1) (by omega) ?_
        rw [show (1 : Int32) = nI 1 from rfl, pk_sub (by omega)]
      · rw [if_neg hc] at q1
        cases q1
theorem ms_isOrder {x : Int32} {m : Nat} (hm : m ≤ 5) (h12 : gg_g σ 0 12 = nI m)
    (h1 : pp_okO m x = true → ∀ σ', (∀ i k, i ≠ 11 → gg_g σ' i k = gg_g σ i k) → (∀ k, k < m → gg_g σ' 11 k = nI (pp_dg m x.toInt.toNat k) ∧ pp_dg m x.toInt.toNat k < m) → Q 1 σ')
    (h0 : pp_okO m x = false → ∀ σ', (∀ i k, i ≠ 11 → gg_g σ' i k = gg_g σ i k) → Q 0 σ') : mmw_isOrder x σ Q := by
  have h32 : (2 : Nat) ^ m ≤ 2 ^ 5 := Nat.pow_le_pow_right (by decide) hm
  have hp0 := Nat.two_pow_pos m
  unfold mmw_isOrder
  by_cases hx : x < 0
  · have hx' : x.toInt < 0 := by rw [Int32.lt_iff_toInt_lt] at hx; exact hx
    have hok : pp_okO m x = false := by unfold pp_okO; simp; intro h; omega
    cases m with
    | zero =>
      refine ⟨1, ?_⟩
      unfold mmw_isOrder_12
      rw [h12]
      refine ⟨fun _ => ⟨fun e => ?_, fun _ => h0 hok σ (fun _ _ _ => rfl)⟩, fun z => absurd (by decide) z⟩
      rw [e] at hx
      exact absurd hx (by decide)
    | succ m =>
      refine ⟨1, ?_⟩
      unfold mmw_isOrder_12
      rw [h12, show nI (m + 1) - 1 = nI m from nI_pred m, ml_cl (by omega)]
      refine ⟨fun z => absurd z (nI_pos (by omega)), fun _ => ⟨ml_in (by omega) (by decide), ?_⟩⟩
      rintro _ rfl
      exact ⟨fun _ => h0 hok _ (fun i k hi => by rw [gg_row _ _ _ _ hi]), fun z => absurd hx z⟩
  · obtain ⟨n, hn, rfl⟩ := nI_of hx
    have ht : (nI n).toInt.toNat = n := by rw [nI_toInt hn, Int.toNat_natCast]
    rw [ht] at h1
    have hok : pp_okO m (nI n) = true ↔ ∃ q, pp_seen m m n 0 = some q ∧ q = 2 ^ m - 1 := by
      unfold pp_okO
      rw [ht, nI_toInt hn]
      simp
    refine ⟨m + 1, ?_⟩
    have := ms_isOrder_12 (Q := Q) (n := n) (x := nI n) (σ0 := σ) hm hn hx h12 (fun hq => h1 (hok.mpr hq)) (fun hq => h0 (by
      cases e : pp_okO m (nI n) with
      | false => rfl
      | true => exact absurd (hok.mp e) hq)) m 0 σ (Nat.le_refl _) hp0 (fun _ _ _ => rfl) (fun k h1 h2 => by omega) (by rw [Nat.sub_self, Nat.pow_zero, Nat.div_one])
    rw [Nat.sub_self, Nat.pow_zero, Nat.div_one] at this
    rw [h12]
    exact this
def po_go (s : pp_S) (row order : Int32) : Int32 × pp_S := match pp_ix row 4 with
  | none => (-2, s)
  | some r => if pp_okO s.g.1 order then
      (pp_left ((pp_it (fun k c => pp_gc s.K c (pp_dg s.g.1 order.toInt.toNat k) r) s.g.1 0 s.c).L r) ((pp_it (fun k c => pp_gc s.K c (pp_dg s.g.1 order.toInt.toNat k) r) s.g.1 0 s.c).b r), s.setc (pp_it (fun k c => pp_gc s.K c (pp_dg s.g.1 order.toInt.toNat k) r) s.g.1 0 s.c)) else (-2, s)
theorem ms_go_20 {K : pp_K} {r n : Nat} {X : pp_C} {σ0 : gg_S} (hr : r < 4) (hd : ∀ k, k < K.many → gg_g σ0 11 k = nI (pp_dg K.many n k) ∧ pp_dg K.many n k < K.many) (hq : ∀ σ', ma_C σ' K X → ma_fc σ' σ0 → Q (pp_left (X.L r) (X.b r)) σ') :
    ∀ (j k : Nat) (c : pp_C) (σ : gg_S), k + j = K.many → ma_C σ K c → ma_fc σ σ0 → pp_it (fun k c => pp_gc K c (pp_dg K.many n k) r) j k c = X → mmw_go_20 Q (j + 1) (nI r) (nI k) σ := by
  intro j
  induction j with
  | zero =>
    intro k c σ h1 hc hf hX
    have hm := hc.1
    unfold mmw_go_20
    rw [hc.2.1, nI_leI (by omega) (by omega)]
    have hX : c = X := hX
    subst hX
    exact ⟨fun _ => ms_leftOf (by omega) (hc.2.2.1 r hr) (hq σ hc hf), fun z => absurd (show K.many ≤ k by omega) z⟩
  | succ j ih =>
    intro k c σ h1 hc hf hX
    have hm := hc.1
    obtain ⟨d1, d2⟩ := hd k (by omega)
    unfold mmw_go_20
    rw [hc.2.1, nI_leI (by omega) (by omega), ml_cl (by omega), hf 11 k (by omega) (by decide) (by omega) (by omega), d1, nI_1]
    unfold pp_it at hX
    refine ⟨fun z => by omega, fun _ => ⟨ml_in (by omega) (by decide), ms_gleansC hc d2 hr (fun σ' hc' _ f' => ?_)⟩⟩
    exact ih (k + 1) _ σ' (by omega) hc' (ma_fc_tr f' hf) hX
theorem pp_go_nt {K : pp_K} {r : Nat} {f : Nat → Nat} : ∀ (j k : Nat) (c : pp_C), (pp_it (fun k c => pp_gc K c (f k) r) j k c).nt = c.nt := by
  intro j
  induction j with
  | zero => intro k c; rfl
  | succ j ih => intro k c; unfold pp_it; rw [ih]; rfl
theorem ms_go {row order : Int32} (h : RM σ s) (hq : ∀ σ', RM σ' (po_go s row order).2 → Q (po_go s row order).1 σ') : mmw_go row order σ Q := by
  have hm' : s.g.1 ≤ 5 := h.1.1
  have out11 : ∀ σ', (∀ i k, i ≠ 11 → gg_g σ' i k = gg_g σ i k) → RM σ' s := fun σ' e => RM_e1 (S := [11]) h (fun i k _ b => e i k (fun z => b (by rw [z]; decide))) (by decide)
  unfold po_go at hq
  unfold mmw_go
  refine ms_isRow (fun r hr e => ml_1 ?_) (fun e => ml_0 ?_)
  · subst e
    rw [pp_ix_some hr (by decide)] at hq
    dsimp only at hq
    refine ms_isOrder (m := s.g.1) hm' h.1.2.1 (fun ok σ1 e1 d1 => ml_1 ⟨s.g.1 + 1, ?_⟩) (fun ok σ1 e1 => ml_0 ?_)
    · rw [if_pos ok] at hq
      have h1 := out11 σ1 e1
      exact ms_go_20 (K := s.K) (n := order.toInt.toNat) (σ0 := σ1) hr d1 (fun σ' hc' f' => hq σ' (RM_core h1 (ma_out_fc f') hc' (by rw [pp_go_nt]; exact h.2.1))) s.g.1 0 s.c σ1 (by show 0 + s.g.1 = s.g.1; omega) h1.1 ma_fc_rf rfl
    · rw [if_neg (by rw [ok]; decide)] at hq
      exact hq σ1 (out11 σ1 e1)
  · rw [pp_ix_none (by decide) e] at hq
    exact hq σ h
end MU
