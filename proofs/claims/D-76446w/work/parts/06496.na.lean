/-! THE REFERENCE'S METHODS, the last: what a sheet tells, a film, a text -/
section NA
variable {σ : gg_S} {s : pp_S} {Q : Int32 → gg_S → Prop}
theorem pp_gl_len {tk : Nat → Nat → Nat → Nat → Int} : ∀ (rs : List (Nat × Nat)) (nth b L a : Nat) (q : Int), (pp_gl tk rs nth b L a q).2.length = rs.length := by
  intro rs
  induction rs with
  | nil => intro nth b L a q; rfl
  | cons x rs ih =>
    intro nth b L a q
    obtain ⟨k, z⟩ := x
    unfold pp_gl
    rw [List.length_cons, List.length_cons, ih]
/-- the first place where what was taken is another than what is told -/
def pp_oth (l : List Int) (it : Nat → Int32) : Nat → Nat → Int32
  | 0, _ => -1
  | d + 1, j => if Int32.ofInt (l.getD j 0) = it j then pp_oth l it d (j + 1) else nI j
theorem ms_firstOther_18 {k n : Nat} {it : Nat → Int32} {l : List Int} (hk : k < 4) (hn : n ≤ 24) (h20 : gg_g σ 20 k = nI n) (h10 : ∀ j, j < n → gg_g σ 10 j = Int32.ofInt (l.getD j 0)) (h21 : ∀ j, j < n → gg_g σ 21 (40 * k + j) = it j) :
    ∀ d j : Nat, j + d = n → Q (pp_oth l it d j) σ → mmw_firstOther_18 Q (d + 1) (nI k) (nI j) σ := by
  intro d
  induction d with
  | zero =>
    intro j h1 hq
    unfold mmw_firstOther_18
    rw [ml_cl (by omega), h20, nI_leI (by omega) (by omega)]
    exact ⟨ml_in hk (by decide), fun _ => hq, fun z => absurd (show n ≤ j by omega) z⟩
  | succ d ih =>
    intro j h1 hq
    unfold mmw_firstOther_18
    unfold pp_oth at hq
    rw [ml_cl (show k < 2 ^ 31 by omega), h20, nI_leI (by omega) (by omega), show (40 : Int32) = nI 40 from rfl, pk_mul, nI_add, ml_cl (show j < 2 ^ 31 by omega), ml_cl (show 40 * k + j < 2 ^ 31 by omega), h10 j (by omega), h21 j (by omega), nI_1]
    refine ⟨ml_in hk (by decide), fun z => by omega, fun _ => ⟨ml_in (by omega) (by decide), ml_in (by omega) (by decide), fun e => ?_, fun e => ?_⟩⟩
    · rw [if_pos e] at hq
      exact ih (j + 1) (by omega) hq
    · rw [if_neg e] at hq
      exact hq
theorem ma_sh_th {x y : gg_S} {k : Nat} {o : Option (Nat × Nat × (Nat → Int32))} (h : ma_sh x k o) (e : ma_th y x) : ma_sh y k o := by
  refine ma_sh_of h (fun i hi => ?_) (fun q _ => e 21 _ (fun z => absurd z (by decide)) (by decide))
  have key : ∀ i, i ∈ [18, 19, 20] → i ≠ 0 ∧ i ∉ [8, 9, 10, 12, 13, 14] := by decide
  exact e i k (fun z => absurd z (key i hi).1) (key i hi).2
theorem ms_firstOther {K : pp_K} {c : pp_C} {k p r so n : Nat} {it : Nat → Int32} (hc : ma_C σ K c) (hp : p < K.many) (hr : r < 4) (hk : k < 4) (hs : ma_sh σ k (some (so, n, it))) (hn : n ≤ (pp_runs (c.b r) (c.L r)).length)
    (hq : ∀ σ', ma_th σ' σ → Q (pp_oth (pp_gr K c p r).2 it n 0) σ') : mmw_firstOther (nI k) (nI p) (nI r) σ Q := by
  have hrow := hc.2.2.1 r hr
  have hL := hrow.2.2.1
  have hlen : (pp_runs (c.b r) (c.L r)).length ≤ c.L r := pp_rn_len _ _ _ 0 (by omega)
  have hL' : c.L r ≤ 24 := hL
  unfold mmw_firstOther
  refine ms_laysAside (fun s1 f1 w1 => ?_)
  have hc1 : ma_C s1 K c := ma_C_e1 (S := [14]) hc (fun i k _ b => f1 i k (fun z => b (by rw [z]; decide))) (by decide)
  refine ms_gleansC hc1 hp hr (fun σ2 hc2 tk2 f2 => ms_laysBack f1 w1 f2 (fun σ3 ht e => ⟨n + 1, ?_⟩))
  have hs3 := ma_sh_th hs ht
  obtain ⟨a1, a2, a3, a4, a5, a6⟩ := hs3
  refine ms_firstOther_18 hk (by omega) a4 (fun j hj => ?_) a6 n 0 (by omega) (hq σ3 ht)
  rw [e 10 j (fun z => absurd z (by decide)) (by decide)]
  have hlt : j < (pp_gr K c p r).2.length := by
    unfold pp_gr
    rw [pp_gl_len]
    omega
  refine tk2 j _ ?_
  rw [List.getD_eq_getElem?_getD, List.getElem?_eq_getElem hlt]
  rfl
/-- what was told is so -/
def pp_so (K : pp_K) (c : pp_C) (p r n : Nat) (it : Nat → Int32) : Bool := decide (pp_oth (pp_gr K c p r).2 it n 0 = -1)
theorem pp_so_iff {K : pp_K} {c : pp_C} {p r n : Nat} {it : Nat → Int32} : pp_so K c p r n it = true ↔ pp_oth (pp_gr K c p r).2 it n 0 = -1 := by unfold pp_so; simp
theorem ml_or0 {a k : Nat} (hk : k < 31) : nI a ||| ((0 : Int32) <<< (nI k &&& 31)) = nI a := by
  rw [show (0 : Int32) = nI 0 from rfl, ml_shl (by omega) (by omega), Nat.zero_mul, ml_or, Nat.or_zero]
theorem ml_or1 {a k : Nat} (hk : k < 31) : nI a ||| ((1 : Int32) <<< (nI k &&& 31)) = nI (a ||| 2 ^ k) := by
  have : (2 : Nat) ^ k ≤ 2 ^ 30 := Nat.pow_le_pow_right (by decide) (by omega)
  rw [show (1 : Int32) = nI 1 from rfl, ml_shl (by omega) (by omega), Nat.one_mul, ml_or]
/-- who takes so -/
def pp_like (K : pp_K) (c : pp_C) (r n : Nat) (it : Nat → Int32) : Nat := pp_it (fun p a => if pp_so K c p r n it then a ||| 2 ^ p else a) K.many 0 0
theorem ms_likeSet_5 {k r so n : Nat} {it : Nat → Int32} (hk : k < 4) (hr : r < 4) (hs : s.sh k = some (so, n, it)) (hn : n ≤ (pp_runs (s.c.b r) (s.c.L r)).length) {X : Nat} (hq : ∀ σ', RM σ' s → Q (nI X) σ') :
    ∀ (d p a : Nat) (σ : gg_S), p + d = s.g.1 → RM σ s → pp_it (fun p a => if pp_so s.K s.c p r n it then a ||| 2 ^ p else a) d p a = X → mmw_likeSet_5 Q (d + 1) (nI k) (nI r) (nI a) (nI p) σ := by
  intro d
  induction d with
  | zero =>
    intro p a σ h1 h hX
    have hm' : s.g.1 ≤ 5 := h.1.1
    unfold mmw_likeSet_5
    rw [h.1.2.1, nI_leI (show s.K.many < 2 ^ 31 from by show s.g.1 < 2 ^ 31; omega) (by omega)]
    have hX : a = X := hX
    subst hX
    exact ⟨fun _ => hq σ h, fun z => absurd (show s.g.1 ≤ p by omega) z⟩
  | succ d ih =>
    intro p a σ h1 h hX
    have hm' : s.g.1 ≤ 5 := h.1.1
    have hsh := h.2.2.2.2.2 k hk
    rw [hs] at hsh
    unfold pp_it at hX
    unfold mmw_likeSet_5 mmw_likeSet_32
    rw [h.1.2.1, nI_leI (show s.K.many < 2 ^ 31 from by show s.g.1 < 2 ^ 31; omega) (by omega), ml_or0 (by omega), ml_or1 (by omega), nI_1]
    refine ⟨fun z => absurd (show s.g.1 ≤ p from z) (by omega), fun _ => ms_firstOther h.1 (show p < s.g.1 by omega) hr hk hsh hn (fun σ' ht => ?_)⟩
    rw [← pp_so_iff]
    refine ⟨fun e => ?_, fun e => ?_⟩
    · rw [if_pos e] at hX
      exact ih (p + 1) _ σ' (by omega) (RM_th h ht) hX
    · rw [if_neg e] at hX
      exact ih (p + 1) _ σ' (by omega) (RM_th h ht) hX
/-- which rows it would be of -/
def pp_rows (K : pp_K) (c : pp_C) (p n : Nat) (it : Nat → Int32) : Nat := pp_it (fun r a => if decide (n ≤ (pp_runs (c.b r) (c.L r)).length) && pp_so K c p r n it then a ||| 2 ^ r else a) 4 0 0
theorem ms_rowSet_5 {k p so n : Nat} {it : Nat → Int32} (hk : k < 4) (hp : p < s.g.1) (hs : s.sh k = some (so, n, it)) {X : Nat} (hq : ∀ σ', RM σ' s → Q (nI X) σ') :
    ∀ (d r a : Nat) (σ : gg_S), r + d = 4 → RM σ s → pp_it (fun r a => if decide (n ≤ (pp_runs (s.c.b r) (s.c.L r)).length) && pp_so s.K s.c p r n it then a ||| 2 ^ r else a) d r a = X → mmw_rowSet_5 Q (d + 1) (nI k) (nI p) (nI a) (nI r) σ := by
  intro d
  induction d with
  | zero =>
    intro r a σ h1 h hX
    unfold mmw_rowSet_5
    rw [show (4 : Int32) = nI 4 from rfl, nI_leI (by omega) (by omega)]
    have hX : a = X := hX
    subst hX
    exact ⟨fun _ => hq σ h, fun z => absurd (show 4 ≤ r by omega) z⟩
  | succ d ih =>
    intro r a σ h1 h hX
    have hrow := h.1.2.2.1 r (by omega)
    have hL := hrow.2.2.1
    have hlen : (pp_runs (s.c.b r) (s.c.L r)).length ≤ s.c.L r := pp_rn_len _ _ _ 0 (by omega)
    have hL' : s.c.L r ≤ 24 := hL
    unfold pp_it at hX
    unfold mmw_rowSet_5 mmw_rowSet_43 mmw_rowSet_44
    rw [show (4 : Int32) = nI 4 from rfl, nI_leI (by omega) (by omega), ml_or0 (by omega), ml_or1 (by omega), nI_1, ml_cl (by omega)]
    refine ⟨fun z => by omega, fun _ => ms_runsOf (by omega) hrow (fun σ1 hf hru => ⟨ml_in hk (by decide), ?_⟩)⟩
    have h1' := RM_f89 h hf
    have hsh := h1'.2.2.2.2.2 k hk
    rw [hs] at hsh
    have hsh0 := hsh
    obtain ⟨a1, a2, a3, a4, a5, a6⟩ := hsh
    rw [a4, nI_ltI (by omega) (by omega)]
    refine ⟨fun hlt => ?_, fun hge => ms_firstOther h1'.1 (show p < s.g.1 from hp) (by omega) hk hsh0 (by omega) (fun σ' ht => ?_)⟩
    · rw [if_neg (by simp; intro z; omega)] at hX
      exact ih (r + 1) _ σ1 (by omega) h1' hX
    · rw [← pp_so_iff]
      refine ⟨fun e => ?_, fun e => ?_⟩
      · rw [if_pos (by simp [e]; omega)] at hX
        exact ih (r + 1) _ σ' (by omega) (RM_th h1' ht) hX
      · rw [if_neg (by simp [e])] at hX
        exact ih (r + 1) _ σ' (by omega) (RM_th h1' ht) hX
/-- from the last on down: which (below ten), how many, the least -/
def pp_dn (so : Nat → Bool) : Nat → Nat × Nat × Int32 → Nat × Nat × Int32
  | 0, a => a
  | v + 1, a => pp_dn so v (if so v then (a.1 ||| (if v < 10 then 2 ^ v else 0), a.2.1 + 1, nI v) else a)
theorem mz_th_s {x y : gg_S} {i q : Nat} {v v' : Int32} (h : ma_th x (gg_s y i q v')) : ma_th (gg_s x i q v) (gg_s y i q v) := fun j k a b => by
  rw [gg_gs, gg_gs]
  by_cases e : j = i ∧ k = q
  · rw [if_pos e, if_pos e]
  · rw [if_neg e, if_neg e, h j k a b, gg_gs, if_neg e]
theorem mz_th_o {x y : gg_S} {i q : Nat} {v' : Int32} (h : ma_th x (gg_s y i q v')) : ma_th (gg_s x i q (gg_g y i q)) y := fun j k a b => by
  rw [gg_gs]
  by_cases e : j = i ∧ k = q
  · rw [if_pos e, e.1, e.2]
  · rw [if_neg e, h j k a b, gg_gs, if_neg e]
theorem ma_th_tr {x y z : gg_S} (h1 : ma_th x y) (h2 : ma_th y z) : ma_th x z := fun i k a b => (h1 i k a b).trans (h2 i k a b)
theorem ma_th_rf {x : gg_S} : ma_th x x := fun _ _ _ _ => rfl
theorem ms_tells_217 {i0 q0 k p r n so : Nat} {it : Nat → Int32} {what sort before : Int32} {Kf : Nat → pp_K} {cf : Nat → pp_C} {last : Nat} {σ0 : gg_S} {X : Nat × Nat × Int32} (hr : r < 4) (hk : k < 4) (hi18 : i0 ∉ [18, 19, 20, 21])
    (hlay : ∀ (v : Int32) (τ : gg_S) (Q' : gg_S → Prop), Q' (gg_s τ i0 q0 v) → mmw_lays sort (nI p) v τ Q') (hC : ∀ v, v < last → ma_C (gg_s σ0 i0 q0 (nI v)) (Kf v) (cf v)) (hpv : ∀ v, v < last → p < (Kf v).many)
    (hs : ma_sh σ0 k (some (so, n, it))) (hn : ∀ v, v < last → n ≤ (pp_runs ((cf v).b r) ((cf v).L r)).length) (hold : before = gg_g σ0 i0 q0) (hlast : last ≤ 100) (hq : ∀ σ', ma_th σ' σ0 → Q (if what = 3 then nI X.2.1 else if what = 4 then X.2.2 else nI X.1) σ') :
    ∀ (m : Nat) (a : Nat × Nat × Int32) (τ : gg_S) (v' : Int32), m ≤ last → ma_th τ (gg_s σ0 i0 q0 v') → pp_dn (fun v => pp_so (Kf v) (cf v) p r n it) m a = X → mmw_tells_217 Q (m + 1) (nI k) (nI p) (nI r) what sort before (nI a.1) (nI a.2.1) a.2.2 (nI m - 1) τ := by
  intro m
  induction m with
  | zero =>
    intro a τ v' hm ht hX
    have hX : a = X := hX
    subst hX
    unfold mmw_tells_217
    refine ⟨fun _ => hlay _ _ _ ?_, fun z => absurd (by decide) z⟩
    rw [hold]
    have h9 := hq _ (mz_th_o ht)
    refine ⟨fun e => ?_, fun e => ⟨fun e' => ?_, fun e' => ?_⟩⟩
    · rw [if_pos e] at h9; exact h9
    · rw [if_neg e, if_pos e'] at h9; exact h9
    · rw [if_neg e, if_neg e'] at h9; exact h9
  | succ m ih =>
    intro a τ v' hm ht hX
    unfold pp_dn at hX
    unfold mmw_tells_217 mmw_tells_259
    rw [show nI (m + 1) - 1 = nI m from nI_pred m, show nI m + (-1) = nI m - 1 from (Int32.sub_eq_add_neg _ _).symm]
    refine ⟨fun z => absurd z (nI_pos (by omega)), fun _ => hlay _ _ _ ?_⟩
    have ht1 := mz_th_s (v := nI m) ht
    have hc1 := ma_C_th (hC m (by omega)) ht1
    have hs1 : ma_sh (gg_s τ i0 q0 (nI m)) k (some (so, n, it)) := by
      refine ma_sh_of hs (fun i hi => ?_) (fun q _ => ?_)
      · have key : ∀ i, i ∈ [18, 19, 20] → i ≠ 0 ∧ i ∉ [8, 9, 10, 12, 13, 14] ∧ i ∈ [18, 19, 20, 21] := by decide
        obtain ⟨k0, k1, k2⟩ := key i hi
        rw [ht1 i k (fun z => absurd z k0) k1, gg_gs, if_neg (fun z => hi18 (by rw [← z.1]; exact k2))]
      · rw [ht1 21 _ (fun z => absurd z (by decide)) (by decide), gg_gs, if_neg (fun z => hi18 (by rw [← z.1]; decide))]
    refine ms_firstOther hc1 (hpv m (by omega)) hr hk hs1 (hn m (by omega)) (fun σ2 ht2 => ?_)
    have ht3 := ma_th_tr ht2 ht1
    rw [← pp_so_iff, show (10 : Int32) = nI 10 from rfl, nI_leI (by omega) (by omega)]
    refine ⟨fun e => ⟨fun h10 => ?_, fun h10 => ?_⟩, fun e => ?_⟩
    · rw [if_pos e, if_neg (by omega)] at hX
      rw [show (0 : Int32) = nI 0 from rfl, ml_or, nI_1]
      exact ih _ σ2 _ (by omega) ht3 hX
    · rw [if_pos e, if_pos (by omega)] at hX
      rw [ml_or1 (by omega), nI_1]
      exact ih _ σ2 _ (by omega) ht3 hX
    · rw [if_neg e] at hX
      exact ih a σ2 _ (by omega) ht3 hX
def pp_tK (s : pp_S) (p w v : Nat) : pp_K := if w = 1 then (s.K.1, pp_up s.K.kd p v, s.K.num, s.K.f) else if w = 2 then (s.K.1, s.K.kd, pp_up s.K.num p v, s.K.f) else if w = 5 then (s.K.1, s.K.kd, s.K.num, s.t.2.2 v) else s.K
def pp_tc (s : pp_S) (p w v : Nat) : pp_C := if w = 3 ∨ w = 4 then (s.c.b, s.c.L, pp_up s.c.ap p v, s.c.nt) else s.c
def pp_tn (s : pp_S) (w : Nat) : Nat := if w = 1 then 6 else if w = 2 then 10 else if w = 5 then s.t.2.1 else 100
/-- what a sheet tells -/
def pp_tells (s : pp_S) (q : Nat × Nat × (Nat → Int32)) (p r w : Nat) : Int32 :=
  if w = 0 then pp_oth (pp_gr s.K s.c p r).2 q.2.2 q.2.1 0 else if w = 6 then nI (pp_like s.K s.c r q.2.1 q.2.2) else if w = 7 then nI (pp_rows s.K s.c p q.2.1 q.2.2)
  else if w = 3 then nI (pp_dn (fun v => pp_so (pp_tK s p w v) (pp_tc s p w v) p r q.2.1 q.2.2) (pp_tn s w) (0, 0, -1)).2.1
  else if w = 4 then (pp_dn (fun v => pp_so (pp_tK s p w v) (pp_tc s p w v) p r q.2.1 q.2.2) (pp_tn s w) (0, 0, -1)).2.2
  else nI (pp_dn (fun v => pp_so (pp_tK s p w v) (pp_tc s p w v) p r q.2.1 q.2.2) (pp_tn s w) (0, 0, -1)).1
def po_tells (s : pp_S) (k one row w : Int32) : Int32 := match pp_ix k 4 with
  | none => -2
  | some k => match pp_ix one s.g.1 with
    | none => -2
    | some p => match pp_ix row 4 with
      | none => -2
      | some r => match pp_ix w 8 with
        | none => -2
        | some w => match s.sh k with
          | none => -11
          | some q => if q.2.1 ≤ (pp_runs (s.c.b r) (s.c.L r)).length then pp_tells s q p r w else -2
theorem ma_C_kd {x : gg_S} {K : pp_K} {c : pp_C} {p n : Nat} (h : ma_C x K c) (hn : n ≤ 5) : ma_C (gg_s x 6 p (nI n)) (K.1, pp_up K.kd p n, K.num, K.f) c := by
  obtain ⟨k1, k2, k3, k4, k5, t, t1, t2, m, n1, n2, n3⟩ := h
  have hrow : ∀ i, i ≠ 6 → gg_g (gg_s x 6 p (nI n)) i = gg_g x i := fun i a => gg_row _ _ _ _ a
  refine ⟨k1, by rw [hrow 0 (by decide)]; exact k2, fun r hr => ?_, fun q hq => ?_, by rw [hrow 0 (by decide)]; exact k5, t, t1, by rw [hrow 0 (by decide)]; exact t2, m, n1, by rw [hrow 2 (by decide)]; exact n2, ?_⟩
  · have z := k3 r hr
    unfold ma_row at z ⊢
    rw [hrow 5 (by decide), hrow 4 (by decide)]
    exact z
  · obtain ⟨o1, o2, o3, o4, o5⟩ := k4 q hq
    show ma_fo _ q (pp_up K.kd p n q) (K.num q) (c.ap q)
    unfold ma_fo
    rw [hrow 7 (by decide), gg_gs]
    unfold pp_up
    by_cases e : q = p
    · rw [if_pos ⟨rfl, e⟩, if_pos e]
      exact ⟨rfl, o2, o3, hn, o5⟩
    · rw [if_neg (fun z => e z.2), if_neg e]
      exact ⟨o1, o2, o3, o4, o5⟩
  · rw [show (fun i => gg_g (gg_s x 6 p (nI n)) 1 (160 * t + i)) = (fun i => gg_g x 1 (160 * t + i)) from funext fun i => by rw [hrow 1 (by decide)]]
    exact n3
theorem ms_tells {k one row w : Int32} (h : RM σ s) (hq : ∀ σ', RM σ' s → Q (po_tells s k one row w) σ') : mmw_tells k one row w σ Q := by
  have hm' : s.g.1 ≤ 5 := h.1.1
  unfold po_tells at hq
  unfold mmw_tells
  refine ms_isSheet (fun k hk e => ml_1 ?_) (fun e => ml_0 ?_)
  · subst e
    rw [pp_ix_some hk (by decide)] at hq
    dsimp only at hq
    refine ms_isOne (n := s.g.1) h.1.2.1 hm' (fun p hp e => ml_1 ?_) (fun e => ml_0 ?_)
    · subst e
      rw [pp_ix_some (n := s.g.1) hp (by omega)] at hq
      dsimp only at hq
      refine ms_isRow (fun r hr e => ml_1 ?_) (fun e => ml_0 ?_)
      · subst e
        rw [pp_ix_some hr (by decide)] at hq
        dsimp only at hq
        refine ms_lt (n := 8) (by decide) (by decide) (fun w hw e => ml_1 ?_) (fun e => ml_0 ?_)
        · subst e
          rw [pp_ix_some hw (by decide)] at hq
          dsimp only at hq
          have hsh := h.2.2.2.2.2 k hk
          have hrow := h.1.2.2.1 r hr
          have hL := hrow.2.2.1
          have hlen : (pp_runs (s.c.b r) (s.c.L r)).length ≤ s.c.L r := pp_rn_len _ _ _ 0 (by omega)
          have hL' : s.c.L r ≤ 24 := hL
          rw [ml_cl (show k < 2 ^ 31 by omega)]
          refine ⟨ml_in hk (by decide), ?_⟩
          cases ek : s.sh k with
          | none =>
            rw [ek] at hsh hq
            exact ⟨fun _ => hq σ h, fun z => absurd hsh z⟩
          | some q =>
            rw [ek] at hsh hq
            obtain ⟨so, n, it⟩ := q
            have hsh0 := hsh
            obtain ⟨a1, a2, a3, a4, a5, a6⟩ := hsh
            dsimp only at hq
            refine ⟨fun z => absurd (a1.symm.trans z) (by decide), fun _ => ⟨ml_in hk (by decide), ms_runsOf (by omega) hrow (fun σ1 hf hru => ?_)⟩⟩
            have h1 := RM_f89 h hf
            rw [a4, nI_leI (by omega) (by omega)]
            refine ⟨fun hle => ?_, fun hgt => ?_⟩
            · rw [if_pos hle] at hq
              have hs1 := h1.2.2.2.2.2 k hk
              rw [ek] at hs1
              have o4 := (h.1.2.2.2.1 p hp).2.2.2
              -- a family of settings
              have fam : ∀ (w sort : Nat) (i0 q0 last : Nat) (before lastI : Int32) (τ : gg_S), RM τ s → i0 ∉ [18, 19, 20, 21] → (w = 1 ∨ w = 2 ∨ w = 3 ∨ w = 4 ∨ w = 5) → w < 8 → pp_tn s w = last → last ≤ 100 → before = gg_g τ i0 q0 → lastI = nI last - 1 →
                  (∀ (v : Int32) (τ' : gg_S) (Q' : gg_S → Prop), Q' (gg_s τ' i0 q0 v) → mmw_lays (nI sort) (nI p) v τ' Q') → (∀ v, v < last → ma_C (gg_s τ i0 q0 (nI v)) (pp_tK s p w v) (pp_tc s p w v)) →
                  (∀ σ', RM σ' s → Q (pp_tells s (so, n, it) p r w) σ') → mmw_tells_202 Q (nI k) (nI p) (nI r) (nI w) (nI sort) before lastI τ := by
                intro w sort i0 q0 last before lastI τ hτ hi hw5 hw8 hln hl100 hb hlI hlay hC hq
                unfold mmw_tells_202
                rw [hlI]
                have hsτ := hτ.2.2.2.2.2 k hk
                rw [ek] at hsτ
                have hmany : ∀ v, (pp_tK s p w v).many = s.g.1 := fun v => by
                  unfold pp_tK
                  split
                  · rfl
                  · split
                    · rfl
                    · split <;> rfl
                have hbL : ∀ v, (pp_tc s p w v).b = s.c.b ∧ (pp_tc s p w v).L = s.c.L := fun v => by
                  unfold pp_tc
                  split <;> exact ⟨rfl, rfl⟩
                refine ⟨last + 1, ms_tells_217 (Kf := pp_tK s p w) (cf := pp_tc s p w) (last := last) (σ0 := τ) (it := it) (n := n) (so := so) (X := pp_dn (fun v => pp_so (pp_tK s p w v) (pp_tc s p w v) p r n it) last (0, 0, -1)) hr hk hi hlay hC (fun v _ => by rw [hmany v]; exact hp) hsτ (fun v _ => by rw [(hbL v).1, (hbL v).2]; exact hle) hb hl100 (fun σ' ht => ?_) last (0, 0, -1) τ (gg_g τ i0 q0) (Nat.le_refl _) (fun j x _ _ => ?_) rfl⟩
                · have h9 := hq σ' (RM_th hτ ht)
                  unfold pp_tells at h9
                  rw [if_neg (by omega), if_neg (by omega), if_neg (by omega), hln] at h9
                  have e3 : nI w = 3 ↔ w = 3 := nI_eq (b := 3) (by omega) (by decide)
                  have e4 : nI w = 4 ↔ w = 4 := nI_eq (b := 4) (by omega) (by decide)
                  by_cases e : w = 3
                  · rw [if_pos e] at h9
                    rw [if_pos (e3.mpr e)]
                    exact h9
                  · rw [if_neg e] at h9
                    rw [if_neg (fun z => e (e3.mp z))]
                    by_cases e' : w = 4
                    · rw [if_pos e'] at h9
                      rw [if_pos (e4.mpr e')]
                      exact h9
                    · rw [if_neg e'] at h9
                      rw [if_neg (fun z => e' (e4.mp z))]
                      exact h9
                · rw [gg_gs]
                  by_cases e : j = i0 ∧ x = q0
                  · rw [if_pos e, e.1, e.2]
                  · rw [if_neg e]
              have lay7 : ∀ sort, sort = 1 ∨ sort = 2 → ∀ (v : Int32) (τ' : gg_S) (Q' : gg_S → Prop), Q' (gg_s τ' 7 (2 * p + sort - 1) v) → mmw_lays (nI sort) (nI p) v τ' Q' := by
                intro sort hsort v τ' Q' hQ
                unfold mmw_lays
                rw [ml_2, nI_add, show (1 : Int32) = nI 1 from rfl, pk_sub (by omega), ml_cl (n := 2 * p + sort - 1) (by omega)]
                rcases hsort with rfl | rfl
                · exact ⟨fun z => absurd z (by decide), fun _ => ⟨fun z => absurd z (by decide), fun _ => ⟨ml_in (by omega) (by decide), by rintro _ rfl; exact hQ⟩⟩⟩
                · exact ⟨fun z => absurd z (by decide), fun _ => ⟨fun z => absurd z (by decide), fun _ => ⟨ml_in (by omega) (by decide), by rintro _ rfl; exact hQ⟩⟩⟩
              have lay6 : ∀ (v : Int32) (τ' : gg_S) (Q' : gg_S → Prop), Q' (gg_s τ' 6 p v) → mmw_lays (nI 3) (nI p) v τ' Q' := by
                intro v τ' Q' hQ
                unfold mmw_lays
                rw [ml_cl (by omega)]
                exact ⟨fun z => absurd z (by decide), fun _ => ⟨fun _ => ⟨fun _ => ⟨ml_in (by omega) (by decide), by rintro _ rfl; exact hQ⟩, fun z => absurd (by decide) z⟩, fun z => absurd (by decide) z⟩⟩
              have lay4 : ∀ (v : Int32) (τ' : gg_S) (Q' : gg_S → Prop), Q' (gg_s τ' 0 4 v) → mmw_lays (nI 4) (nI p) v τ' Q' := by
                intro v τ' Q' hQ
                unfold mmw_lays
                exact ⟨fun z => absurd z (by decide), fun _ => ⟨fun _ => ⟨fun z => absurd z (by decide), fun _ => by rintro _ rfl; exact hQ⟩, fun z => absurd (by decide) z⟩⟩
              have m1 : ∀ x y : Nat, x < 2 ^ 31 → y < 2 ^ 31 → x ≠ y → ¬ nI x = nI y := fun x y hx hy hne z => hne ((nI_eq hx hy).mp z)
              rcases (show w = 0 ∨ w = 1 ∨ w = 2 ∨ w = 3 ∨ w = 4 ∨ w = 5 ∨ w = 6 ∨ w = 7 by omega) with rfl | rfl | rfl | rfl | rfl | rfl | rfl | rfl
              · refine ⟨fun _ => ms_firstOther h1.1 hp hr hk hs1 hle (fun σ' ht => hq σ' (RM_th h1 ht)), fun z => absurd (by decide) z⟩
              · refine ⟨fun z => absurd z (by decide), fun _ => ⟨fun _ => ⟨fun _ => ?_, fun z => absurd (by decide) z⟩, fun z => absurd (by decide) z⟩⟩
                unfold mmw_tells_140
                refine ⟨fun z => absurd z (by decide), fun _ => ms_told h1 (fun σ2 _ h2 => ?_)⟩
                unfold mmw_tells_162
                refine ⟨fun z => absurd z (by decide), fun _ => ⟨fun _ => fam 1 3 6 p 6 _ _ σ2 h2 (by decide) (by omega) (by decide) rfl (by decide) ?_ (by decide) lay6 (fun v hv => ?_) hq, fun z => absurd (by decide) z⟩⟩
                · rw [(h2.1.2.2.2.1 p hp).1]
                  unfold po_told
                  rw [show (3 : Int32) = nI 3 from rfl, pp_ix_some (show 3 < 11 by decide) (by decide), pp_ix_some (n := s.g.1) hp (by omega)]
                  rfl
                · exact ma_C_kd h2.1 (by omega)
              · refine ⟨fun z => absurd z (by decide), fun _ => ⟨fun _ => ⟨fun z => absurd z (by decide), fun _ => ⟨fun _ => ?_, fun z => absurd (by decide) z⟩⟩, fun z => absurd (by decide) z⟩⟩
                unfold mmw_tells_140
                refine ⟨fun z => absurd z (by decide), fun _ => ms_told h1 (fun σ2 _ h2 => ?_)⟩
                unfold mmw_tells_162
                refine ⟨fun z => absurd z (by decide), fun _ => ⟨fun z => absurd z (by decide), fun _ => ⟨fun _ => fam 2 1 7 (2 * p + 1 - 1) 10 _ _ σ2 h2 (by decide) (by omega) (by decide) rfl (by decide) ?_ (by decide) (lay7 1 (Or.inl rfl)) (fun v hv => ?_) hq, fun z => absurd (by decide) z⟩⟩⟩
                · rw [show 2 * p + 1 - 1 = 2 * p by omega, (h2.1.2.2.2.1 p hp).2.1]
                  unfold po_told
                  rw [show (1 : Int32) = nI 1 from rfl, pp_ix_some (show 1 < 11 by decide) (by decide), pp_ix_some (n := s.g.1) hp (by omega)]
                  rfl
                · rw [show 2 * p + 1 - 1 = 2 * p by omega]
                  exact (ma_C_row7 h2.1 hp).1 (by omega)
              · refine ⟨fun z => absurd z (by decide), fun _ => ⟨fun _ => ⟨fun z => absurd z (by decide), fun _ => ⟨fun z => absurd z (by decide), fun _ => ⟨fun z => absurd z (by decide), fun _ => ?_⟩⟩⟩, fun z => absurd (by decide) z⟩⟩
                unfold mmw_tells_140
                refine ⟨fun z => absurd z (by decide), fun _ => ms_told h1 (fun σ2 _ h2 => ?_)⟩
                unfold mmw_tells_162
                refine ⟨fun z => absurd z (by decide), fun _ => ⟨fun z => absurd z (by decide), fun _ => ⟨fun z => absurd z (by decide), fun _ => fam 3 2 7 (2 * p + 2 - 1) 100 _ _ σ2 h2 (by decide) (by omega) (by decide) rfl (by decide) ?_ (by decide) (lay7 2 (Or.inr rfl)) (fun v hv => ?_) hq⟩⟩⟩
                · rw [show 2 * p + 2 - 1 = 2 * p + 1 by omega, (h2.1.2.2.2.1 p hp).2.2.1]
                  unfold po_told
                  rw [show (2 : Int32) = nI 2 from rfl, pp_ix_some (show 2 < 11 by decide) (by decide), pp_ix_some (n := s.g.1) hp (by omega)]
                  rfl
                · rw [show 2 * p + 2 - 1 = 2 * p + 1 by omega]
                  exact (ma_C_row7 h2.1 hp).2 (by omega)
              · refine ⟨fun z => absurd z (by decide), fun _ => ⟨fun _ => ⟨fun z => absurd z (by decide), fun _ => ⟨fun z => absurd z (by decide), fun _ => ⟨fun z => absurd z (by decide), fun _ => ?_⟩⟩⟩, fun z => absurd (by decide) z⟩⟩
                unfold mmw_tells_140
                refine ⟨fun z => absurd z (by decide), fun _ => ms_told h1 (fun σ2 _ h2 => ?_)⟩
                unfold mmw_tells_162
                refine ⟨fun z => absurd z (by decide), fun _ => ⟨fun z => absurd z (by decide), fun _ => ⟨fun z => absurd z (by decide), fun _ => fam 4 2 7 (2 * p + 2 - 1) 100 _ _ σ2 h2 (by decide) (by omega) (by decide) rfl (by decide) ?_ (by decide) (lay7 2 (Or.inr rfl)) (fun v hv => ?_) hq⟩⟩⟩
                · rw [show 2 * p + 2 - 1 = 2 * p + 1 by omega, (h2.1.2.2.2.1 p hp).2.2.1]
                  unfold po_told
                  rw [show (2 : Int32) = nI 2 from rfl, pp_ix_some (show 2 < 11 by decide) (by decide), pp_ix_some (n := s.g.1) hp (by omega)]
                  rfl
                · rw [show 2 * p + 2 - 1 = 2 * p + 1 by omega]
                  exact (ma_C_row7 h2.1 hp).2 (by omega)
              · refine ⟨fun z => absurd z (by decide), fun _ => ⟨fun _ => ⟨fun z => absurd z (by decide), fun _ => ⟨fun z => absurd z (by decide), fun _ => ⟨fun _ => ?_, fun z => absurd (by decide) z⟩⟩⟩, fun z => absurd (by decide) z⟩⟩
                have htc6 : s.t.2.1 ≤ 6 := h1.2.2.1.2.2.2.1
                unfold mmw_tells_140
                refine ⟨fun _ => ?_, fun z => absurd (by decide) z⟩
                unfold mmw_tells_162
                refine ⟨fun _ => fam 5 4 0 4 s.t.2.1 _ _ σ1 h1 (by decide) (by omega) (by decide) rfl (by omega) rfl (by rw [h1.2.2.1.2.2.1]) lay4 (fun v hv => ?_) hq, fun z => absurd (by decide) z⟩
                exact (RM_rule h1 hv).1
              · refine ⟨fun z => absurd z (by decide), fun _ => ⟨fun z => absurd z (by decide), fun _ => ⟨fun _ => ?_, fun z => absurd (by decide) z⟩⟩⟩
                exact ⟨s.g.1 + 1, ms_likeSet_5 hk hr ek hle (X := pp_like s.K s.c r n it) hq s.g.1 0 0 σ1 (by omega) h1 rfl⟩
              · refine ⟨fun z => absurd z (by decide), fun _ => ⟨fun z => absurd z (by decide), fun _ => ⟨fun z => absurd z (by decide), fun _ => ?_⟩⟩⟩
                exact ⟨5, ms_rowSet_5 hk hp ek (X := pp_rows s.K s.c p n it) hq 4 0 0 σ1 (by decide) h1 rfl⟩
            · rw [if_neg hgt] at hq
              exact hq σ1 h1
        · rw [pp_ix_none (by decide) e] at hq
          exact hq σ h
      · rw [pp_ix_none (by decide) e] at hq
        exact hq σ h
    · rw [pp_ix_none (n := s.g.1) (by omega) e] at hq
      exact hq σ h
  · rw [pp_ix_none (by decide) e] at hq
    exact hq σ h
end NA
