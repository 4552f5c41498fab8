/-! THE CLASS: a row is gleaned run by run, the row as it is then -/
section CSD
variable {χ : xx_S} {Q : Int32 → xx_S → Prop}
/-- the runs of the row now against those of the row at first -/
def cc_rs (s : Int) : List (Nat × Nat) → List (Nat × Nat) → Prop
  | [], [] => True
  | x :: xs, y :: ys => (y.1 : Int) = x.1 + s ∧ y.2 = x.2 ∧ cc_rs s xs ys
  | [], _ :: _ => False
  | _ :: _, [] => False
theorem cc_rs_rf : ∀ l : List (Nat × Nat), cc_rs 0 l l := by
  intro l
  induction l with
  | nil => trivial
  | cons x l ih => exact ⟨by omega, rfl, ih⟩
theorem cc_rs_tr {s t : Int} : ∀ (a b c : List (Nat × Nat)), cc_rs s a b → cc_rs t b c → cc_rs (t + s) a c := by
  intro a
  induction a with
  | nil =>
    intro b c h1 h2
    cases b with
    | nil => cases c with
      | nil => trivial
      | cons _ _ => exact h2.elim
    | cons _ _ => exact h1.elim
  | cons x a ih =>
    intro b c h1 h2
    cases b with
    | nil => exact h1.elim
    | cons y b => cases c with
      | nil => exact h2.elim
      | cons z c =>
        obtain ⟨p1, p2, p3⟩ := h1
        obtain ⟨q1, q2, q3⟩ := h2
        exact ⟨by omega, q2.trans p2, ih b c p3 q3⟩
theorem cc_gap_sh {b L b2 L2 k k2 : Nat} (hL : L2 + k = L + k2) (hb : ∀ i, b2.testBit (k2 + i) = b.testBit (k + i)) : pp_gap b2 L2 k2 ↔ pp_gap b L k := by
  have h0 := hb 0
  rw [Nat.add_zero, Nat.add_zero] at h0
  constructor
  · intro g
    exact ⟨by have := g.1; omega, by rw [← h0]; exact g.2⟩
  · intro g
    exact ⟨by have := g.1; omega, by rw [h0]; exact g.2⟩
theorem cc_gz_sh {b L b2 L2 : Nat} : ∀ d k k2 : Nat, L - k ≤ d → L2 + k = L + k2 → (∀ i, b2.testBit (k2 + i) = b.testBit (k + i)) → pp_gz b2 L2 k2 = pp_gz b L k := by
  intro d
  induction d with
  | zero =>
    intro k k2 h hL hb
    rw [pp_gz_zero (fun g => by have := g.1; omega), pp_gz_zero (fun g => by have := g.1; omega)]
  | succ d ih =>
    intro k k2 h hL hb
    by_cases g : pp_gap b L k
    · rw [pp_gz_pos g, pp_gz_pos ((cc_gap_sh hL hb).mpr g), ih (k + 1) (k2 + 1) (by have := g.1; omega) (by omega) (fun i => by rw [show k2 + 1 + i = k2 + (1 + i) by omega, show k + 1 + i = k + (1 + i) by omega]; exact hb _)]
    · rw [pp_gz_zero g, pp_gz_zero (fun z => g ((cc_gap_sh hL hb).mp z))]
theorem cc_rn_sh {b L b2 L2 : Nat} : ∀ d k k2 : Nat, L - k ≤ d → L2 + k = L + k2 → (∀ i, b2.testBit (k2 + i) = b.testBit (k + i)) → cc_rs ((k : Int) - k2) (pp_rn b2 L2 k2) (pp_rn b L k) := by
  intro d
  induction d with
  | zero =>
    intro k k2 h hL hb
    rw [pp_rn_end (by omega), pp_rn_end (by omega)]
    trivial
  | succ d ih =>
    intro k k2 h hL hb
    by_cases hk : k < L
    · by_cases g : pp_gap b L k
      · have g2 := (cc_gap_sh hL hb).mpr g
        have hz := cc_gz_sh L k k2 (by omega) hL hb
        have h1 := pp_gz_pos g
        rw [pp_rn_gap g, pp_rn_gap g2, hz]
        refine ⟨by show (k : Int) = k2 + _; omega, rfl, ?_⟩
        have := ih (k + pp_gz b L k) (k2 + pp_gz b L k) (by omega) (by omega) (fun i => by rw [Nat.add_assoc, Nat.add_assoc]; exact hb _)
        rw [show (((k + pp_gz b L k : Nat) : Int) - ((k2 + pp_gz b L k : Nat) : Int)) = (k : Int) - k2 by omega] at this
        exact this
      · rw [pp_rn_no hk g, pp_rn_no (by omega) (fun z => g ((cc_gap_sh hL hb).mp z))]
        have := ih (k + 1) (k2 + 1) (by omega) (by omega) (fun i => by rw [show k2 + 1 + i = k2 + (1 + i) by omega, show k + 1 + i = k + (1 + i) by omega]; exact hb _)
        rw [show (((k + 1 : Nat) : Int) - ((k2 + 1 : Nat) : Int)) = (k : Int) - k2 by omega] at this
        exact this
    · rw [pp_rn_end (by omega), pp_rn_end (by omega)]
      trivial
/-- behind what was taken the row is as it was -/
theorem cc_cs_bit {b L p z : Nat} {t : Int} (ht : t ≤ z) (i : Nat) : (pp_cs b L p t).1.testBit (((p : Int) + z - t).toNat + i) = b.testBit (p + z + i) := by
  unfold pp_cs
  by_cases h : t < 0
  · rw [if_pos h]
    show (b % 2 ^ p + b / 2 ^ p * 2 ^ (p + t.natAbs)).testBit _ = _
    have hlt : b % 2 ^ p < 2 ^ (p + t.natAbs) := Nat.lt_of_lt_of_le (Nat.mod_lt _ (Nat.two_pow_pos p)) (Nat.pow_le_pow_right (by decide) (by omega))
    rw [Nat.add_comm, Nat.mul_comm, Nat.testBit_two_pow_mul_add _ hlt, if_neg (by omega), Nat.testBit_div_two_pow]
    congr 1
    omega
  · rw [if_neg h]
    show (b % 2 ^ p + b / 2 ^ (p + t.natAbs) * 2 ^ p).testBit _ = _
    rw [Nat.add_comm, Nat.mul_comm, Nat.testBit_two_pow_mul_add _ (Nat.mod_lt _ (Nat.two_pow_pos p)), if_neg (by omega), Nat.testBit_div_two_pow]
    congr 1
    omega
theorem pp_tk_ge (kd num apr v g : Nat) : -(num : Int) ≤ pp_tk kd num apr v g := by
  unfold pp_tk
  split
  · omega
  · split
    · split <;> omega
    · split
      · omega
      · split
        · omega
        · split <;> omega
/-- gleaning row r by gleaner p: what may change -/
def cc_fg (r p : Nat) (x y : xx_S) : Prop := (∀ i k, (i = 0 → k ∈ cc_k0) → i ∉ [3, 4, 5] → ¬ (i = 1 ∧ k = r) → ¬ (i = 2 ∧ k = r) → xx_g x i k = xx_g y i k) ∧ cc_pool x y ∧ ∀ q, xx_r y 43 p ≠ some q → xx_f x q = xx_f y q
theorem cc_fg_rf {r p : Nat} : cc_fg r p χ χ := ⟨fun _ _ _ _ _ _ => rfl, cc_pool_rf, fun _ _ => rfl⟩
theorem cc_fg_tr {r p : Nat} {x y z : xx_S} (h1 : cc_fg r p x y) (h2 : cc_fg r p y z) : cc_fg r p x z := ⟨fun i k a b c d => (h1.1 i k a b c d).trans (h2.1 i k a b c d), cc_pool_tr h1.2.1 h2.2.1, fun q hq => (h1.2.2 q (by rw [h2.2.1.1]; exact hq)).trans (h2.2.2 q hq)⟩
theorem cc_fg_e {r p : Nat} {S : List Nat} {x y : xx_S} (h : cc_e S x y) (hs : ∀ i, i ∈ S → i ∈ [3, 4, 5]) : cc_fg r p x y := ⟨fun i k a b _ _ => h.1 i k a (fun z => b (hs i z)), cc_pool_e h.2, fun q _ => by show x.2.2.2 q = y.2.2.2 q; rw [h.2]⟩
theorem cc_tx_pool {x y : xx_S} {f : Nat → pp_F} (h : cc_tx y f) (e : cc_pool x y) (e24 : xx_g x 0 24 = xx_g y 0 24) : cc_tx x f := by
  obtain ⟨t, t1, t2, t3⟩ := h
  exact ⟨t, t1, by rw [e24]; exact t2, cc_text_pool t3 e⟩
/-- an apron is another -/
theorem cc_fo_ps {p kd num ap v y : Nat} (hy : xx_r χ 43 p = some y) (hgl : xx_gl χ y (9 + kd) (nI num) (nI ap)) (hkd : kd ≤ 5) (hnum : num ≤ 9) (hv : v ≤ 999) : cc_fo (xx_ps χ y (.inr (9 + kd, [.int (nI num), .int (nI v)]))) p kd num v := by
  refine ⟨⟨y, hy, hgl.1, ?_, hgl.2.2⟩, hkd, hnum, hv⟩
  rw [xx_fps]
  unfold va_up
  rw [if_pos rfl]
theorem cc_fg_ps {r p k y : Nat} {n a a' : Int32} (hy : xx_r χ 43 p = some y) (hgl : xx_gl χ y k n a) : cc_fg r p (xx_ps χ y (.inr (k, [.int n, .int a']))) χ := by
  refine ⟨fun _ _ _ _ _ _ => rfl, cc_pool_ps hgl ⟨_, hy⟩, fun q hq => ?_⟩
  rw [xx_fps]
  unfold va_up
  rw [if_neg (fun e => hq (by rw [e]; exact hy))]
theorem cs_takesRun {f : Nat → pp_F} {r p kd num a b L at1 z nth : Nat} (hr : r < 4) (hp : p < 5) (hrow : cc_row χ r L b) (hfo : cc_fo χ p kd num a) (htx : cc_tx χ f) (hz : at1 + z ≤ L)
    (hq : ∀ χ', cc_row χ' r (pp_cs b L at1 (max (ma_tk f (xx_g χ 0 2) kd num z nth L a) (-(24 - L : Int)))).2 (pp_cs b L at1 (max (ma_tk f (xx_g χ 0 2) kd num z nth L a) (-(24 - L : Int)))).1 →
      cc_fo χ' p kd num (pp_cl 0 999 ((a : Int) + max (ma_tk f (xx_g χ 0 2) kd num z nth L a) (-(24 - L : Int)))).toNat → cc_fg r p χ' χ → (∀ k, xx_g χ' 4 k = xx_g χ 4 k) → Q (Int32.ofInt (max (ma_tk f (xx_g χ 0 2) kd num z nth L a) (-(24 - L : Int)))) χ') :
    xxw_takesRun (nI p) (nI r) (nI at1) (nI z) (nI nth) χ Q := by
  have hL : L ≤ 24 := hrow.2.2.1
  unfold xxw_takesRun
  rw [ml_cl (show r < 2 ^ 31 by omega), hrow.1]
  refine ⟨ml_in hr (by decide), cs_takingOf hp htx (by omega) hfo (fun χ1 e1 => ?_)⟩
  have hfo1 := cc_fo_e hfo e1
  have hrow1 : cc_row χ1 r L b := ⟨by rw [e1.1 1 r (fun q => absurd q (by decide)) (by decide)]; exact hrow.1, by rw [e1.1 2 r (fun q => absurd q (by decide)) (by decide)]; exact hrow.2.1, hrow.2.2⟩
  have hnum := hfo.2.2.1
  have hap := hfo.2.2.2
  have htk : pp_tk kd num a (ma_say f 0 99 (ma_env (nI z) (nI nth) (nI num) (xx_g χ 0 2) (nI a) (nI L))) z = ma_tk f (xx_g χ 0 2) kd num z nth L a := rfl
  have t1 := pp_tk_le kd num a (ma_say f 0 99 (ma_env (nI z) (nI nth) (nI num) (xx_g χ 0 2) (nI a) (nI L))) z
  have t2 := pp_tk_ge kd num a (ma_say f 0 99 (ma_env (nI z) (nI nth) (nI num) (xx_g χ 0 2) (nI a) (nI L))) z
  rw [htk] at t1 t2 ⊢
  generalize ma_tk f (xx_g χ 0 2) kd num z nth L a = tk at t1 t2 hq ⊢
  have go : ∀ t : Int, max tk (-(24 - L : Int)) = t → xxw_takesRun_43 Q (nI p) (nI r) (nI at1) (Int32.ofInt t) χ1 := by
    intro t ht
    rw [ht] at hq
    unfold xxw_takesRun_43
    refine cs_closes hr hrow1 (by omega) (by omega) (by omega) ?_
    have f2 : cc_fg r p (xx_s (xx_s χ1 2 r (nI (pp_cs b L at1 t).1)) 1 r (nI (pp_cs b L at1 t).2)) χ1 := by
      refine ⟨fun i k _ _ c d => ?_, cc_pool_e rfl, fun _ _ => rfl⟩
      rw [xx_gs, if_neg c, xx_gs, if_neg d]
    obtain ⟨⟨y, y1, y2⟩, y3⟩ := hfo1
    have hlt := ml_cs_lt (b := b) (L := L) (p := at1) (t := t) (by omega) hrow.2.2.2 (by omega)
    have hrow2 : cc_row (xx_s (xx_s χ1 2 r (nI (pp_cs b L at1 t).1)) 1 r (nI (pp_cs b L at1 t).2)) r (pp_cs b L at1 t).2 (pp_cs b L at1 t).1 := by
      refine ⟨by rw [xx_gs, if_pos ⟨rfl, rfl⟩], by rw [xx_gs, if_neg (fun q => absurd q.1 (by decide)), xx_gs, if_pos ⟨rfl, rfl⟩], ?_, hlt⟩
      unfold pp_cs
      split
      · show L + t.natAbs ≤ 24
        omega
      · show L - t.natAbs ≤ 24
        omega
    rw [ml_cl (by omega)]
    refine ⟨ml_in hp (by decide), y, y1, ml_in hp (by decide), y, y1, _, _, _, y2, cs_held (hi := 999) (by decide) ⟨_, _, _, y2, ?_⟩⟩
    rintro _ rfl
    rw [ml_iN a, ← Int32.ofInt_add, ml_iT (by omega) (by omega)]
    refine hq _ ⟨hrow2.1, hrow2.2.1, hrow2.2.2⟩ ?_ (cc_fg_tr (cc_fg_ps (a := nI a) y1 y2) (cc_fg_tr f2 (cc_fg_e e1 (fun i hi => absurd hi (by simp))))) (fun k => ?_)
    · exact cc_fo_ps (χ := xx_s (xx_s χ1 2 r (nI (pp_cs b L at1 t).1)) 1 r (nI (pp_cs b L at1 t).2)) y1 y2 y3.1 y3.2.1 ml_cl_r
    · rw [xx_gps, xx_ro (show (4 : Nat) ≠ 1 by decide), xx_ro (show (4 : Nat) ≠ 2 by decide)]
      exact e1.1 4 k (fun q => absurd q (by decide)) (by decide)
  have e0 : (0 : Int32) ≤ Int32.ofInt tk ↔ 0 ≤ tk := by rw [show (0 : Int32) = Int32.ofInt 0 from rfl, ml_iLe (by omega) (by omega) (by omega) (by omega)]
  rw [e0]
  refine ⟨fun h => go tk (by omega), fun h => ⟨ml_in hr (by decide), ?_⟩⟩
  have e24 : (24 : Int32) - xx_g χ1 1 r = Int32.ofInt (24 - L : Int) := by rw [hrow1.1, ml_iN L, show (24 : Int32) = Int32.ofInt 24 from rfl, ← Int32.ofInt_sub]
  rw [e24, ← Int32.ofInt_neg]
  by_cases hc : (24 - L : Int) < -tk
  · rw [if_pos ((ml_iLt (by omega) (by omega) (by omega) (by omega)).mpr hc), ← Int32.ofInt_neg]
    exact go _ (by omega)
  · rw [if_neg (fun q => hc ((ml_iLt (by omega) (by omega) (by omega) (by omega)).mp q)), ← Int32.ofInt_neg, Int.neg_neg]
    exact go _ (by omega)
abbrev cc_took (χ : xx_S) (l : List Int) : Prop := ∀ (j : Nat) (t : Int), l[j]? = some t → xx_g χ 4 j = Int32.ofInt t
theorem cc_gz_end {b L : Nat} : ∀ d k : Nat, L - k ≤ d → ¬ pp_gap b L (k + pp_gz b L k) := by
  intro d
  induction d with
  | zero =>
    intro k h g
    rw [pp_gz_zero (fun g => by have := g.1; omega)] at g
    have := g.1
    omega
  | succ d ih =>
    intro k h g
    by_cases e : pp_gap b L k
    · rw [pp_gz_pos e, show k + (pp_gz b L (k + 1) + 1) = k + 1 + pp_gz b L (k + 1) by omega] at g
      exact ih (k + 1) (by have := e.1; omega) g
    · rw [pp_gz_zero e, Nat.add_zero] at g
      exact e g
theorem cc_rn_skip {b L k : Nat} (h : ¬ pp_gap b L k) : pp_rn b L k = pp_rn b L (k + 1) := by
  by_cases hk : k < L
  · exact pp_rn_no hk h
  · rw [pp_rn_end (by omega), pp_rn_end (by omega)]
theorem cs_gleans_22 {K8 : Int32 → Int32 → Int32 → Int32 → Int32 → xx_S → Prop} {r b L at1 : Nat} {x1 x3 x5 : Int32} (hr : r < 4) (hrow : cc_row χ r L b) (hk : xxw_gleans_59 Q K8 x1 (nI r) x3 (nI at1) x5 (nI (pp_gz b L at1)) χ) :
    ∀ e z : Nat, at1 + z + e = L → pp_gz b L at1 = z + pp_gz b L (at1 + z) → xxw_gleans_22 Q K8 (e + 1) x1 (nI r) x3 (nI at1) x5 (nI z) χ := by
  have hL : L ≤ 24 := hrow.2.2.1
  have h24 := ml_24 hrow.2.2.1 hrow.2.2.2
  intro e
  induction e with
  | zero =>
    intro z h1 h2
    have h0 : pp_gz b L at1 = z := by rw [h2, pp_gz_zero (fun g => by have := g.1; omega)]; rfl
    rw [h0] at hk
    unfold xxw_gleans_22
    rw [ml_cl (by omega), hrow.1, nI_add, nI_leI (by omega) (by omega)]
    exact ⟨ml_in hr (by decide), fun _ => hk, fun q => absurd (show L ≤ at1 + z by omega) q⟩
  | succ e ih =>
    intro z h1 h2
    unfold xxw_gleans_22
    rw [ml_cl (by omega), hrow.1, hrow.2.1, nI_add, nI_leI (by omega) (by omega), nI_1]
    refine ⟨ml_in hr (by decide), fun q => by omega, fun _ => ⟨ml_in hr (by decide), cs_isIn (by omega) (by omega) (fun eb => ml_1 ?_) (fun eb => ml_0 ?_)⟩⟩
    · have h0 : pp_gz b L at1 = z := by rw [h2, pp_gz_zero (fun g => by have := g.2; rw [eb] at this; cases this)]; rfl
      rw [h0] at hk
      exact hk
    · refine ih (z + 1) (by omega) ?_
      rw [h2, pp_gz_pos ⟨by omega, eb⟩, show at1 + (z + 1) = at1 + z + 1 by omega]
      omega
set_option maxHeartbeats 4000000 in
theorem cs_gleans_8 {f : Nat → pp_F} {r p kd num : Nat} {χ0 : xx_S} (hr : r < 4) (hp : p < 5) :
    ∀ (d at1 b L a : Nat) (s : Int) (dn : List Int) (rs : List (Nat × Nat)) (χ : xx_S), L - at1 ≤ d → at1 ≤ L + 1 → cc_rs s (pp_rn b L at1) rs → dn.length + rs.length ≤ 24 → cc_row χ r L b → cc_fo χ p kd num a → cc_tx χ f → cc_took χ dn → cc_fg r p χ χ0 →
      (∀ χ', cc_row χ' r (pp_gl (ma_tk f (xx_g χ0 0 2) kd num) rs dn.length b L a s).1.2.1 (pp_gl (ma_tk f (xx_g χ0 0 2) kd num) rs dn.length b L a s).1.1 → cc_fo χ' p kd num (pp_gl (ma_tk f (xx_g χ0 0 2) kd num) rs dn.length b L a s).1.2.2.1 →
        cc_took χ' (dn ++ (pp_gl (ma_tk f (xx_g χ0 0 2) kd num) rs dn.length b L a s).2) → cc_fg r p χ' χ0 → xx_g χ' 0 26 = nI (dn.length + rs.length) → Q (Int32.ofInt (pp_gl (ma_tk f (xx_g χ0 0 2) kd num) rs dn.length b L a s).1.2.2.2) χ') →
      xxw_gleans_8 Q (d + 1) (nI p) (nI r) (Int32.ofInt s) (nI at1) (nI dn.length) χ := by
  have fin : ∀ (n at1 b L a : Nat) (s : Int) (dn : List Int) (rs : List (Nat × Nat)) (χ : xx_S), L ≤ at1 → at1 ≤ L + 1 → cc_rs s (pp_rn b L at1) rs → cc_row χ r L b → cc_fo χ p kd num a → cc_took χ dn → cc_fg r p χ χ0 →
      (∀ χ', cc_row χ' r (pp_gl (ma_tk f (xx_g χ0 0 2) kd num) rs dn.length b L a s).1.2.1 (pp_gl (ma_tk f (xx_g χ0 0 2) kd num) rs dn.length b L a s).1.1 → cc_fo χ' p kd num (pp_gl (ma_tk f (xx_g χ0 0 2) kd num) rs dn.length b L a s).1.2.2.1 →
        cc_took χ' (dn ++ (pp_gl (ma_tk f (xx_g χ0 0 2) kd num) rs dn.length b L a s).2) → cc_fg r p χ' χ0 → xx_g χ' 0 26 = nI (dn.length + rs.length) → Q (Int32.ofInt (pp_gl (ma_tk f (xx_g χ0 0 2) kd num) rs dn.length b L a s).1.2.2.2) χ') →
      xxw_gleans_8 Q (n + 1) (nI p) (nI r) (Int32.ofInt s) (nI at1) (nI dn.length) χ := by
    intro n at1 b L a s dn rs χ hat hat2 hrs hrow hfo htk hfg hq
    rw [pp_rn_end hat] at hrs
    cases rs with
    | cons _ _ => exact hrs.elim
    | nil =>
      have hL : L ≤ 24 := hrow.2.2.1
      unfold xxw_gleans_8
      rw [ml_cl (by omega), hrow.1, nI_leI (by omega) (by omega)]
      refine ⟨ml_in hr (by decide), fun _ => ?_, fun q => absurd hat q⟩
      rintro _ rfl
      refine hq _ ⟨hrow.1, hrow.2⟩ hfo ?_ (cc_fg_tr (cc_fg_e (S := []) (cc_e_0 (by decide)) (fun i hi => absurd hi (by simp))) hfg) xx_me
      show cc_took _ (dn ++ [])
      rw [List.append_nil]
      exact fun j t hj => (by rw [xx_ro (show (4 : Nat) ≠ 0 by decide)]; exact htk j t hj)
  intro d
  induction d with
  | zero =>
    intro at1 b L a s dn rs χ h1 hat2 hrs hlen hrow hfo htx htk hfg hq
    exact fin 0 at1 b L a s dn rs χ (by omega) hat2 hrs hrow hfo htk hfg hq
  | succ d ih =>
    intro at1 b L a s dn rs χ h1 hat2 hrs hlen hrow hfo htx htk hfg hq
    by_cases hat : L ≤ at1
    · exact fin (d + 1) at1 b L a s dn rs χ hat hat2 hrs hrow hfo htk hfg hq
    have hL : L ≤ 24 := hrow.2.2.1
    unfold xxw_gleans_8
    rw [ml_cl (by omega), hrow.1, nI_leI (by omega) (by omega)]
    refine ⟨ml_in hr (by decide), fun q => absurd q hat, fun _ => ⟨L - at1 + 1, cs_gleans_22 hr hrow ?_ (L - at1) 0 (by omega) (by rw [Nat.add_zero, Nat.zero_add])⟩⟩
    unfold xxw_gleans_59
    have hzle := pp_gz_le b L L at1 (by omega)
    rw [show nI (pp_gz b L at1) ≤ 0 ↔ pp_gz b L at1 ≤ 0 from nI_leI (b := 0) (by omega) (by decide)]
    refine ⟨fun hz => ?_, fun hz => ?_⟩
    · have hng : ¬ pp_gap b L at1 := fun g => by rw [pp_gz_pos g] at hz; omega
      rw [cc_rn_skip hng] at hrs
      rw [nI_1]
      exact ih (at1 + 1) b L a s dn rs χ (by omega) (by omega) hrs hlen hrow hfo htx htk hfg hq
    · have hg : pp_gap b L at1 := Classical.byContradiction (fun q => hz (by rw [pp_gz_zero q]; exact Nat.le_refl _))
      rw [pp_rn_gap hg] at hrs
      have hend := cc_gz_end (b := b) (L := L) L at1 (by omega)
      generalize hzz : pp_gz b L at1 = z at hz hzle hrs hend ⊢
      cases rs with
      | nil => exact hrs.elim
      | cons y rs' =>
        obtain ⟨k0, z0⟩ := y
        obtain ⟨q1, q2, q3⟩ := hrs
        have q1 : (k0 : Int) = at1 + s := q1
        have q2 : z0 = z := q2
        subst q2
        have hlen' : dn.length + (rs'.length + 1) ≤ 24 := hlen
        have h2 : xx_g χ 0 2 = xx_g χ0 0 2 := hfg.1 0 2 (fun _ => by decide) (by decide) (by omega) (by omega)
        refine cs_takesRun (f := f) (at1 := at1) hr hp hrow hfo htx (by omega) (fun χ2 hrow2 hfo2 hfg2 h42 => ?_)
        rw [h2] at hrow2 hfo2 ⊢
        have t1 := pp_tk_le kd num a (ma_say f 0 99 (ma_env (nI z0) (nI dn.length) (nI num) (xx_g χ0 0 2) (nI a) (nI L))) z0
        have t1 : ma_tk f (xx_g χ0 0 2) kd num z0 dn.length L a ≤ z0 := t1
        have hG : pp_gl (ma_tk f (xx_g χ0 0 2) kd num) ((k0, z0) :: rs') dn.length b L a s = ((pp_gl (ma_tk f (xx_g χ0 0 2) kd num) rs' (dn.length + 1) (pp_cs b L at1 (max (ma_tk f (xx_g χ0 0 2) kd num z0 dn.length L a) (-(24 - L : Int)))).1 (pp_cs b L at1 (max (ma_tk f (xx_g χ0 0 2) kd num z0 dn.length L a) (-(24 - L : Int)))).2 (pp_cl 0 999 ((a : Int) + max (ma_tk f (xx_g χ0 0 2) kd num z0 dn.length L a) (-(24 - L : Int)))).toNat (s + max (ma_tk f (xx_g χ0 0 2) kd num z0 dn.length L a) (-(24 - L : Int)))).1,
            max (ma_tk f (xx_g χ0 0 2) kd num z0 dn.length L a) (-(24 - L : Int)) :: (pp_gl (ma_tk f (xx_g χ0 0 2) kd num) rs' (dn.length + 1) (pp_cs b L at1 (max (ma_tk f (xx_g χ0 0 2) kd num z0 dn.length L a) (-(24 - L : Int)))).1 (pp_cs b L at1 (max (ma_tk f (xx_g χ0 0 2) kd num z0 dn.length L a) (-(24 - L : Int)))).2 (pp_cl 0 999 ((a : Int) + max (ma_tk f (xx_g χ0 0 2) kd num z0 dn.length L a) (-(24 - L : Int)))).toNat (s + max (ma_tk f (xx_g χ0 0 2) kd num z0 dn.length L a) (-(24 - L : Int)))).2) := by
          rw [pp_gl, show ((k0 : Int) - s).toNat = at1 by omega]
        rw [hG] at hq
        have ht1 : max (ma_tk f (xx_g χ0 0 2) kd num z0 dn.length L a) (-(24 - L : Int)) ≤ z0 := by omega
        have ht2 : -(24 - L : Int) ≤ max (ma_tk f (xx_g χ0 0 2) kd num z0 dn.length L a) (-(24 - L : Int)) := by omega
        generalize max (ma_tk f (xx_g χ0 0 2) kd num z0 dn.length L a) (-(24 - L : Int)) = t at hrow2 hfo2 hq ht1 ht2 ⊢
        have hcsL : ((pp_cs b L at1 t).2 : Int) = L - t := by
          unfold pp_cs
          split
          · show ((L + t.natAbs : Nat) : Int) = _
            omega
          · show ((L - t.natAbs : Nat) : Int) = _
            omega
        have hbit := cc_cs_bit (b := b) (L := L) (p := at1) ht1
        have hL3 := hrow2.2.2.1
        rw [ml_cl (by omega)]
        refine ⟨ml_in (by omega) (by decide), ?_⟩
        rintro _ rfl
        have eat : nI at1 + (nI z0 - Int32.ofInt t) + 1 = nI (((at1 : Int) + z0 - t).toNat + 1) := by
          rw [← nI_1, ml_iN at1, ml_iN z0, ← Int32.ofInt_sub, ← Int32.ofInt_add, ← ml_iNat (by omega)]
          exact congrArg (fun q => Int32.ofInt q + 1) (by omega)
        rw [← Int32.ofInt_add, eat, nI_1]
        have hsh := cc_rn_sh (b := b) (L := L) (b2 := (pp_cs b L at1 t).1) (L2 := (pp_cs b L at1 t).2) L (at1 + z0) (((at1 : Int) + z0 - t).toNat) (by omega) (by omega) hbit
        rw [show (((at1 + z0 : Nat) : Int) - ((((at1 : Int) + z0 - t).toNat : Nat) : Int)) = t by omega] at hsh
        have hng : ¬ pp_gap (pp_cs b L at1 t).1 (pp_cs b L at1 t).2 (((at1 : Int) + z0 - t).toNat) := fun g => hend ((cc_gap_sh (b := b) (L := L) (k := at1 + z0) (by omega) hbit).mp g)
        rw [cc_rn_skip hng] at hsh
        have hrs2 := cc_rs_tr _ _ _ hsh q3
        have f3 : cc_fg r p (xx_s χ2 4 dn.length (Int32.ofInt t)) χ2 := cc_fg_e (S := [4]) (cc_e_s (by decide)) (by decide)
        have hfg3 := cc_fg_tr f3 (cc_fg_tr hfg2 hfg)
        have hfo3 : cc_fo (xx_s χ2 4 dn.length (Int32.ofInt t)) p kd num (pp_cl 0 999 ((a : Int) + t)).toNat := cc_fo_e (S := [4]) hfo2 (cc_e_s (by decide))
        have htx3 : cc_tx (xx_s χ2 4 dn.length (Int32.ofInt t)) f := cc_tx_pool htx (cc_pool_tr (cc_pool_e rfl) hfg2.2.1) (by rw [xx_ro (show (0 : Nat) ≠ 4 by decide)]; exact hfg2.1 0 24 (fun _ => by decide) (by decide) (by omega) (by omega))
        have hrow3 : cc_row (xx_s χ2 4 dn.length (Int32.ofInt t)) r (pp_cs b L at1 t).2 (pp_cs b L at1 t).1 := ⟨by rw [xx_ro (show (1 : Nat) ≠ 4 by decide)]; exact hrow2.1, by rw [xx_ro (show (2 : Nat) ≠ 4 by decide)]; exact hrow2.2.1, hrow2.2.2⟩
        have htk3 : cc_took (xx_s χ2 4 dn.length (Int32.ofInt t)) (dn ++ [t]) := fun j u hj => by
          rw [xx_gs]
          by_cases e : j = dn.length
          · rw [if_pos ⟨rfl, e⟩]
            rw [e, List.getElem?_append_right (Nat.le_refl _), Nat.sub_self] at hj
            cases hj
            rfl
          · rw [if_neg (fun q => e q.2)]
            by_cases hlt : j < dn.length
            · rw [List.getElem?_append_left hlt] at hj
              rw [h42 j]
              exact htk j u hj
            · rw [List.getElem?_append_right (by omega), List.getElem?_eq_none (by simp; omega)] at hj
              cases hj
        have hl1 : (dn ++ [t]).length = dn.length + 1 := by rw [List.length_append]; rfl
        have := ih (((at1 : Int) + z0 - t).toNat + 1) (pp_cs b L at1 t).1 (pp_cs b L at1 t).2 (pp_cl 0 999 ((a : Int) + t)).toNat (s + t) (dn ++ [t]) rs' (xx_s χ2 4 dn.length (Int32.ofInt t)) (by omega) (by omega) hrs2 (by rw [hl1]; omega) hrow3 hfo3 htx3 htk3 hfg3
        rw [hl1] at this
        refine this (fun χ' w1 w2 w3 w4 w5 => hq χ' w1 w2 ?_ w4 ?_)
        · rw [List.append_assoc] at w3
          exact w3
        · rw [w5]
          exact congrArg nI (by show dn.length + 1 + rs'.length = dn.length + (rs'.length + 1); omega)
/-- a row gleaned: the row, the apron, what was taken of each run, the sum -/
theorem cs_gleans {f : Nat → pp_F} {r p kd num a b L : Nat} (hr : r < 4) (hp : p < 5) (hrow : cc_row χ r L b) (hfo : cc_fo χ p kd num a) (htx : cc_tx χ f)
    (hq : ∀ χ', cc_row χ' r (pp_gl (ma_tk f (xx_g χ 0 2) kd num) (pp_runs b L) 0 b L a 0).1.2.1 (pp_gl (ma_tk f (xx_g χ 0 2) kd num) (pp_runs b L) 0 b L a 0).1.1 → cc_fo χ' p kd num (pp_gl (ma_tk f (xx_g χ 0 2) kd num) (pp_runs b L) 0 b L a 0).1.2.2.1 →
      cc_took χ' (pp_gl (ma_tk f (xx_g χ 0 2) kd num) (pp_runs b L) 0 b L a 0).2 → cc_fg r p χ' χ → xx_g χ' 0 26 = nI (pp_runs b L).length → Q (Int32.ofInt (pp_gl (ma_tk f (xx_g χ 0 2) kd num) (pp_runs b L) 0 b L a 0).1.2.2.2) χ') : xxw_gleans (nI p) (nI r) χ Q := by
  have hL := hrow.2.2.1
  have hlen : (pp_runs b L).length ≤ L := pp_rn_len b L L 0 (by omega)
  refine ⟨L + 1, cs_gleans_8 (f := f) (χ0 := χ) (num := num) (kd := kd) hr hp L 0 b L a 0 [] (pp_runs b L) χ (by omega) (by omega) (cc_rs_rf _) (by show 0 + _ ≤ 24; omega) hrow hfo htx (fun j t hj => by simp at hj) cc_fg_rf (fun χ' w1 w2 w3 w4 w5 => hq χ' w1 w2 w3 w4 ?_)⟩
  rw [w5]
  exact congrArg nI (by show 0 + _ = _; omega)
end CSD
