/-! THE CLASS'S ROWS -/
theorem xx_T1 (k : Nat) : (TX0 k).1 = RX0 := by unfold TX0; split <;> rfl
section XXROWS
variable {p : Program} {l : Launch} {e : Env} {R : Room} {s : State} {m : MethodId} {args : Array Value} {below : List Frame} {meth : Method} {c : Code} {H : Heap} {locs : List Loc} {cells slots : Nat} {Q : State → Prop}
variable {cc : ByteArray} {pc index : Nat} {ls : Array Slot} {rest : List Value} {D : va_G} {E : Nat → ClassId} {A : Nat → Prop} {ad sk : Nat → Nat} {χ : xx_S} {H0 : Heap}
theorem xx_recv (hW : xx_W D E A ad sk χ s H) : ∃ cell : Cell, H[ad 0]? = some cell ∧ cell.vm.isStatics = false ∧ s.vm.findClass RX0 = some cell.cls :=
  va_recv hW.2.2.1 hW.1 (ci := 0) (q0 := 0) rfl (xx_cs_at E ad sk χ (by decide))
theorem xx_geti (hx : p.tables.exec = Jvm.exec) (hb : c.code = cc) (hts : ∀ w ∈ lw_all, w.before args s = true) (hown : s.vm.findClass RX0 = some m.cls) (hW : xx_W D E A ad sk χ s H) (k : Nat) (hk : decide (k < 40 ∧ xx_ref k = none) = true)
    (hl : Cond.fieldLink RX0 index RX0 (TX0 k).2.1 (TX0 k).2.2.1 ∈ lw_all) (hd : decode cc pc = .ok (.getfield index, 3))
    (kk : W p l e R s m args below meth c H locs cells slots Q (F0 m (pc + 3) ls (.int (xx_g χ 0 k) :: rest))) : W p l e R s m args below meth c H locs cells slots Q (F0 m pc ls (.ref (ad 0) :: rest)) := by
  obtain ⟨k1, k3⟩ := of_decide_eq_true hk
  refine va_get (D := D) (ci := 0) (v := .int (xx_g χ 0 k)) (C := RX0) (T := TX0) (N := 40) hx hb hts in_X0 hown hW.2.2.1 hW.1 0 (xx_cs_at E ad sk χ (by decide)) rfl k k1 (hts _ hl) (fun _ h9 => by rw [xx_T1] at h9; exact h9) ?_ hd kk
  show (xx_fl ad χ)[k]? = _
  rw [xx_fl_at ad χ k1]
  unfold xx_fv
  rw [k3]
theorem xx_getr (hx : p.tables.exec = Jvm.exec) (hb : c.code = cc) (hts : ∀ w ∈ lw_all, w.before args s = true) (hown : s.vm.findClass RX0 = some m.cls) (hW : xx_W D E A ad sk χ s H) (k i : Nat) (hk : decide (k < 40 ∧ xx_ref k = some i) = true)
    (hl : Cond.fieldLink RX0 index RX0 (TX0 k).2.1 (TX0 k).2.2.1 ∈ lw_all) (hd : decode cc pc = .ok (.getfield index, 3))
    (kk : W p l e R s m args below meth c H locs cells slots Q (F0 m (pc + 3) ls (.ref (ad i) :: rest))) : W p l e R s m args below meth c H locs cells slots Q (F0 m pc ls (.ref (ad 0) :: rest)) := by
  obtain ⟨k1, k3⟩ := of_decide_eq_true hk
  refine va_get (D := D) (ci := 0) (v := .ref (ad i)) (C := RX0) (T := TX0) (N := 40) hx hb hts in_X0 hown hW.2.2.1 hW.1 0 (xx_cs_at E ad sk χ (by decide)) rfl k k1 (hts _ hl) (fun _ h9 => by rw [xx_T1] at h9; exact h9) ?_ hd kk
  show (xx_fl ad χ)[k]? = _
  rw [xx_fl_at ad χ k1]
  unfold xx_fv
  rw [k3]
theorem xx_puti (hx : p.tables.exec = Jvm.exec) (hb : c.code = cc) (hts : ∀ w ∈ lw_all, w.before args s = true) (hown : s.vm.findClass RX0 = some m.cls) (hW : xx_W D E A ad sk χ s H) (hS : va_S A H0 H locs) (k : Nat) (hk : decide (k < 40 ∧ xx_ref k = none) = true)
    (hl : Cond.fieldLink RX0 index RX0 (TX0 k).2.1 (TX0 k).2.2.1 ∈ lw_all) (hfin : (TX0 k).2.2.2 = false) {v : Int32} (hn : narrow (tyX0 k) (.int v) = .int v) (hfit : fits (tyX0 k) (.int v) = true) (hd : decode cc pc = .ok (.putfield index, 3))
    (kk : ∀ (H1 : Heap) (locs1 : List Loc), xx_W D E A ad sk (xx_s χ 0 k v) s H1 → va_S A H0 H1 locs1 → W p l e R s m args below meth c H1 locs1 cells slots Q (F0 m (pc + 3) ls rest)) : W p l e R s m args below meth c H locs cells slots Q (F0 m pc ls (.int v :: .ref (ad 0) :: rest)) := by
  obtain ⟨k1, k3⟩ := of_decide_eq_true hk
  refine va_put (D := D) (ci := 0) (v := .int v) (C := RX0) (T := TX0) (N := 40) hx hb hts in_X0 tyX0 tyX0_ok nmX0 hown hW.2.2.1 hW.1 hW.2.1 hS 0 (xx_cs_at E ad sk χ (by decide)) rfl k k1 (hts _ hl) (fun _ h9 => by rw [xx_T1] at h9; exact h9) hfin (tyX0_ok k k1) hn hfit (by rw [xx_fl_len]; exact k1) hd (fun H1 locs1 hP hD hS1 => ?_)
  have hcs : (xx_cs E ad sk χ).set 0 (ad 0, .inr (0, (xx_fl ad χ).set k (.int v))) = xx_cs E ad sk (xx_s χ 0 k v) := by
    refine xx_cs_set E ad sk (by decide) ?_ (fun j _ hj => xx_c_eq E ad sk (fun q => by rw [xx_gs, if_neg (fun z => hj z.1)]) (fun q => rfl)) rfl rfl
    rw [xx_fl_s0 ad χ k v k3]
    rfl
  rw [hcs] at hP hD
  exact kk H1 locs1 ⟨hP, hD, hW.2.2⟩ hS1
/-- arrays of ints -/
theorem xx_ald (hx : p.tables.exec = Jvm.exec) (hb : c.code = cc) (hW : xx_W D E A ad sk χ s H) (j n : Nat) {i : Int32} (hj : 1 ≤ j ∧ j < 30) (hn : xx_len j = n) (hin : vp_in i n) (hd : decode cc pc = .ok (.iaload, 1))
    (kk : W p l e R s m args below meth c H locs cells slots Q (F0 m (pc + 1) ls (.int (xx_g χ j i.toNatClampNeg) :: rest))) : W p l e R s m args below meth c H locs cells slots Q (F0 m pc ls (.int i :: .ref (ad j) :: rest)) :=
  va_iald (cA := E 0) (n := n) (f := xx_g χ j) hx hb hW.2.2.1 hW.1 j 0 (by rw [xx_cs_at E ad sk χ (by omega), xx_c_int E ad sk χ hj.1 hj.2, hn]) rfl hin hd kk
theorem xx_ast (hx : p.tables.exec = Jvm.exec) (hb : c.code = cc) (hW : xx_W D E A ad sk χ s H) (hS : va_S A H0 H locs) (j n : Nat) {i v : Int32} (hj : 1 ≤ j ∧ j < 30) (hn : xx_len j = n) (hin : vp_in i n) (hd : decode cc pc = .ok (.iastore, 1))
    (kk : ∀ (H1 : Heap) (locs1 : List Loc), xx_W D E A ad sk (xx_s χ j i.toNatClampNeg v) s H1 → va_S A H0 H1 locs1 → W p l e R s m args below meth c H1 locs1 cells slots Q (F0 m (pc + 1) ls rest)) : W p l e R s m args below meth c H locs cells slots Q (F0 m pc ls (.int v :: .int i :: .ref (ad j) :: rest)) := by
  refine va_iast (cA := E 0) (n := n) (f := xx_g χ j) hx hb hW.2.2.1 hW.1 hW.2.1 hS j 0 (by rw [xx_cs_at E ad sk χ (by omega), xx_c_int E ad sk χ hj.1 hj.2, hn]) rfl hin hd (fun H1 locs1 hP hD hS1 => ?_)
  have hcs : (xx_cs E ad sk χ).set j (ad j, .inl (E 0, n, .inl (upd (xx_g χ j) i.toNatClampNeg v))) = xx_cs E ad sk (xx_s χ j i.toNatClampNeg v) := by
    refine xx_cs_set E ad sk (by omega) ?_ (fun q _ hq => xx_c_eq E ad sk (fun t => by rw [xx_gs, if_neg (fun z => hq z.1)]) (fun t => rfl)) rfl rfl
    rw [xx_c_int E ad sk _ hj.1 hj.2, hn]
    congr 4
    funext q
    rw [xx_gs]
    unfold upd
    by_cases h : q = i.toNatClampNeg <;> simp [h]
  rw [hcs] at hP hD
  exact kk H1 locs1 ⟨hP, hD, hW.2.2⟩ hS1
/-- the tape -/
theorem xx_bld (hx : p.tables.exec = Jvm.exec) (hb : c.code = cc) (hW : xx_W D E A ad sk χ s H) {i : Int32} (hin : vp_in i 160) (hd : decode cc pc = .ok (.baload, 1))
    (kk : W p l e R s m args below meth c H locs cells slots Q (F0 m (pc + 1) ls (.int (xx_g χ 30 i.toNatClampNeg) :: rest))) : W p l e R s m args below meth c H locs cells slots Q (F0 m pc ls (.int i :: .ref (ad 30) :: rest)) :=
  va_bald (cA := E 1) (n := 160) (f := xx_g χ 30) hx hb hW.2.2.1 hW.1 30 1 (xx_cs_at E ad sk χ (i := 30) (by decide)) rfl hin hd kk
theorem xx_bst (hx : p.tables.exec = Jvm.exec) (hb : c.code = cc) (hW : xx_W D E A ad sk χ s H) (hS : va_S A H0 H locs) {i v : Int32} (hin : vp_in i 160) (hd : decode cc pc = .ok (.bastore, 1))
    (kk : ∀ (H1 : Heap) (locs1 : List Loc), xx_W D E A ad sk (xx_s χ 30 i.toNatClampNeg v.toInt8.toInt32) s H1 → va_S A H0 H1 locs1 → W p l e R s m args below meth c H1 locs1 cells slots Q (F0 m (pc + 1) ls rest)) : W p l e R s m args below meth c H locs cells slots Q (F0 m pc ls (.int v :: .int i :: .ref (ad 30) :: rest)) := by
  refine va_bast (cA := E 1) (n := 160) (f := xx_g χ 30) hx hb hW.2.2.1 hW.1 hW.2.1 hS 30 1 (xx_cs_at E ad sk χ (i := 30) (by decide)) rfl hin hd (fun H1 locs1 hP hD hS1 => ?_)
  have hcs : (xx_cs E ad sk χ).set 30 (ad 30, .inl (E 1, 160, .inl (upd (xx_g χ 30) i.toNatClampNeg (vp_nar .byte v)))) = xx_cs E ad sk (xx_s χ 30 i.toNatClampNeg v.toInt8.toInt32) := by
    refine xx_cs_set E ad sk (by decide) ?_ (fun q _ hq => xx_c_eq E ad sk (fun t => by rw [xx_gs, if_neg (fun z => hq z.1)]) (fun t => rfl)) rfl rfl
    show Sum.inl (E 1, 160, Sum.inl (xx_g (xx_s χ 30 i.toNatClampNeg v.toInt8.toInt32) 30)) = _
    congr 4
  rw [hcs] at hP hD
  exact kk H1 locs1 ⟨hP, hD, hW.2.2⟩ hS1
/-- arrays of references -/
theorem xx_refs (hx : p.tables.exec = Jvm.exec) (hb : c.code = cc) (hW : xx_W D E A ad sk χ s H) (j t0 n : Nat) (ty : FieldType) (f : Nat → Option Nat) (hj : j < 46) (hc : xx_c E ad sk χ j = .inl (E t0, xx_q n f)) (ht : (xx_tys E)[t0]? = some (E t0, ty)) (hty : ty.isReference = true) {i : Int32} (hin : vp_in i n) (hd : decode cc pc = .ok (.aaload, 1))
    (kk : W p l e R s m args below meth c H locs cells slots Q (F0 m (pc + 1) ls (va_rf (f i.toNatClampNeg) :: rest))) : W p l e R s m args below meth c H locs cells slots Q (F0 m pc ls (.int i :: .ref (ad j) :: rest)) := by
  have hlt : i.toNatClampNeg < n := Nat.not_le.mp fun q => hin (Or.inr q)
  have hcell : H[ad j]? = some (vp_cell (E t0) (xx_q n f)) := by
    have := hW.1 j _ (xx_cs_at E ad sk χ hj)
    rw [hc] at this
    exact this
  exact W.aald (v := va_rf (f i.toNatClampNeg)) (ty := ty) hx hb hcell ((hW.2.2.1.2 t0 _ ht).1 n (fun j => va_rf (f j))) hty (fun q => by cases q) (by show ¬ (i < 0 ∨ (arrV _ _ _).slots.size ≤ _); rw [arrV_size]; exact hin) (by show (arrV _ _ _).slots[_]? = _; rw [arrV_read _ _ hlt]) rfl rfl hd kk
theorem xx_ald2 (hx : p.tables.exec = Jvm.exec) (hb : c.code = cc) (hW : xx_W D E A ad sk χ s H) (j b n : Nat) (hj : 31 ≤ j ∧ j < 36) (hb0 : xx_base j = b) (hn : xx_len j = n) {i : Int32} (hin : vp_in i n) (hd : decode cc pc = .ok (.aaload, 1))
    (kk : W p l e R s m args below meth c H locs cells slots Q (F0 m (pc + 1) ls (.ref (ad (b + i.toNatClampNeg)) :: rest))) : W p l e R s m args below meth c H locs cells slots Q (F0 m pc ls (.int i :: .ref (ad j) :: rest)) :=
  xx_refs hx hb hW j 2 n (.array .int) (fun q => some (ad (b + q))) (by omega) (by rw [xx_c_out E ad sk χ hj.1 hj.2, hn, hb0]) rfl rfl hin hd kk
theorem xx_aldF (hx : p.tables.exec = Jvm.exec) (hb : c.code = cc) (hW : xx_W D E A ad sk χ s H) {i : Int32} (hin : vp_in i 5) {y : Nat} (hy : xx_r χ 43 i.toNatClampNeg = some y) (hd : decode cc pc = .ok (.aaload, 1))
    (kk : W p l e R s m args below meth c H locs cells slots Q (F0 m (pc + 1) ls (.ref y :: rest))) : W p l e R s m args below meth c H locs cells slots Q (F0 m pc ls (.int i :: .ref (ad 43) :: rest)) := by
  refine xx_refs hx hb hW 43 5 5 (.object RX9) (xx_r χ 43) (by decide) rfl rfl rfl hin hd ?_
  rw [hy]
  exact kk
theorem xx_aldT (hx : p.tables.exec = Jvm.exec) (hb : c.code = cc) (hW : xx_W D E A ad sk χ s H) {i : Int32} (hin : vp_in i 6) {y : Nat} (hy : xx_r χ 44 i.toNatClampNeg = some y) (hd : decode cc pc = .ok (.aaload, 1))
    (kk : W p l e R s m args below meth c H locs cells slots Q (F0 m (pc + 1) ls (.ref y :: rest))) : W p l e R s m args below meth c H locs cells slots Q (F0 m pc ls (.int i :: .ref (ad 44) :: rest)) := by
  refine xx_refs hx hb hW 44 6 6 (.array (.object "GleanersForGaps$Node")) (xx_r χ 44) (by decide) rfl rfl rfl hin hd ?_
  rw [hy]
  exact kk
theorem xx_aldS (hx : p.tables.exec = Jvm.exec) (hb : c.code = cc) (hW : xx_W D E A ad sk χ s H) {i : Int32} (hin : vp_in i 4) (hd : decode cc pc = .ok (.aaload, 1))
    (kk : W p l e R s m args below meth c H locs cells slots Q (F0 m (pc + 1) ls (.ref (ad (39 + i.toNatClampNeg)) :: rest))) : W p l e R s m args below meth c H locs cells slots Q (F0 m pc ls (.int i :: .ref (ad 38) :: rest)) :=
  xx_refs hx hb hW 38 4 4 (.object RX2) (fun q => some (ad (39 + q))) (by decide) rfl rfl rfl hin hd kk
/-- a gleaner in the pool -/
def xx_gl (χ : xx_S) (y k : Nat) (n a : Int32) : Prop := y ∈ xx_L χ ∧ xx_f χ y = .inr (k, [.int n, .int a]) ∧ 9 ≤ k ∧ k ≤ 14
theorem xx_pl (E : Nat → ClassId) (ad sk : Nat → Nat) {χ : xx_S} {y : Nat} (h : y ∈ xx_L χ) : ∃ k : Nat, (xx_cs E ad sk χ)[k]? = some (y, xx_tr E (xx_f χ y)) := va_pl_get (f := fun y => xx_tr E (xx_f χ y)) h
theorem xx_up_tr (E : Nat → ClassId) (f : Nat → va_E) (y : Nat) (e : va_E) : (fun z => xx_tr E (va_up f y e z)) = va_up (fun z => xx_tr E (f z)) y (xx_tr E e) := by
  funext z
  unfold va_up
  by_cases h : z = y <;> simp [h]
theorem xx_pl_set (E : Nat → ClassId) {A : Nat → Prop} (ad sk : Nat → Nat) {χ : xx_S} {y k : Nat} {e : va_E} (hD : va_D A (xx_cs E ad sk χ)) (h : y ∈ xx_L χ) (hk : (xx_cs E ad sk χ)[k]? = some (y, xx_tr E (xx_f χ y))) : (xx_cs E ad sk χ).set k (y, xx_tr E e) = xx_cs E ad sk (xx_ps χ y e) := by
  have h1 : (xx_cs E ad sk χ).set k (y, xx_tr E e) = (List.range 46).map (fun i => (ad i, xx_c E ad sk χ i)) ++ va_pl (xx_L χ) (va_up (fun z => xx_tr E (xx_f χ z)) y (xx_tr E e)) := va_pl_set (f := fun z => xx_tr E (xx_f χ z)) hD h hk
  rw [h1]
  unfold xx_cs
  rw [show xx_L (xx_ps χ y e) = xx_L χ from rfl, show xx_f (xx_ps χ y e) = va_up (xx_f χ) y e from rfl, xx_up_tr]
  congr 1
theorem xx_gln {own ref : String} (hx : p.tables.exec = Jvm.exec) (hb : c.code = cc) (hts : ∀ w ∈ lw_all, w.before args s = true) (hown : s.vm.findClass own = some m.cls) (hW : xx_W D E A ad sk χ s H) {y k : Nat} {n a : Int32} (hy : xx_gl χ y k n a)
    (hl : Cond.fieldLink own index ref "number" "I" ∈ lw_all) (hsame : ∀ x, s.fieldFound? "GleanersForGaps$Gleaner" "number" "I" = some x → s.fieldFound? ref "number" "I" = some x) (hd : decode cc pc = .ok (.getfield index, 3))
    (kk : W p l e R s m args below meth c H locs cells slots Q (F0 m (pc + 3) ls (.int n :: rest))) : W p l e R s m args below meth c H locs cells slots Q (F0 m pc ls (.ref y :: rest)) := by
  obtain ⟨h1, h2, h3, h4⟩ := hy
  obtain ⟨q0, hq⟩ := xx_pl E ad sk h1
  rw [h2] at hq
  have hq : (xx_cs E ad sk χ)[q0]? = some (y, .inr (k, [.int n, .int a])) := hq
  have hk : k = 9 ∨ k = 10 ∨ k = 11 ∨ k = 12 ∨ k = 13 ∨ k = 14 := by omega
  rcases hk with h | h | h | h | h | h <;> subst h
  · exact va_get (D := D) (ci := 9) (v := .int n) (C := RX9) (T := TX9) (N := 2) hx hb hts in_X9 hown hW.2.2.1 hW.1 q0 hq rfl 0 (by decide) (hts _ hl) hsame rfl hd kk
  · exact va_get (D := D) (ci := 10) (v := .int n) (C := RX10) (T := TX10) (N := 2) hx hb hts in_X10 hown hW.2.2.1 hW.1 q0 hq rfl 0 (by decide) (hts _ hl) hsame rfl hd kk
  · exact va_get (D := D) (ci := 11) (v := .int n) (C := RX11) (T := TX11) (N := 2) hx hb hts in_X11 hown hW.2.2.1 hW.1 q0 hq rfl 0 (by decide) (hts _ hl) hsame rfl hd kk
  · exact va_get (D := D) (ci := 12) (v := .int n) (C := RX12) (T := TX12) (N := 2) hx hb hts in_X12 hown hW.2.2.1 hW.1 q0 hq rfl 0 (by decide) (hts _ hl) hsame rfl hd kk
  · exact va_get (D := D) (ci := 13) (v := .int n) (C := RX13) (T := TX13) (N := 2) hx hb hts in_X13 hown hW.2.2.1 hW.1 q0 hq rfl 0 (by decide) (hts _ hl) hsame rfl hd kk
  · exact va_get (D := D) (ci := 14) (v := .int n) (C := RX14) (T := TX14) (N := 2) hx hb hts in_X14 hown hW.2.2.1 hW.1 q0 hq rfl 0 (by decide) (hts _ hl) hsame rfl hd kk
theorem xx_pgln {own ref : String} (hx : p.tables.exec = Jvm.exec) (hb : c.code = cc) (hts : ∀ w ∈ lw_all, w.before args s = true) (hown : s.vm.findClass own = some m.cls) (hW : xx_W D E A ad sk χ s H) (hS : va_S A H0 H locs) {y k : Nat} {n a v : Int32} (hy : xx_gl χ y k n a)
    (hl : Cond.fieldLink own index ref "number" "I" ∈ lw_all) (hsame : ∀ x, s.fieldFound? "GleanersForGaps$Gleaner" "number" "I" = some x → s.fieldFound? ref "number" "I" = some x) (hd : decode cc pc = .ok (.putfield index, 3))
    (kk : ∀ (H1 : Heap) (locs1 : List Loc), xx_W D E A ad sk (xx_ps χ y (.inr (k, [.int v, .int a]))) s H1 → va_S A H0 H1 locs1 → W p l e R s m args below meth c H1 locs1 cells slots Q (F0 m (pc + 3) ls rest)) : W p l e R s m args below meth c H locs cells slots Q (F0 m pc ls (.int v :: .ref y :: rest)) := by
  obtain ⟨h1, h2, h3, h4⟩ := hy
  obtain ⟨q0, hq⟩ := xx_pl E ad sk h1
  have hset : (xx_cs E ad sk χ).set q0 (y, .inr (k, [.int v, .int a])) = xx_cs E ad sk (xx_ps χ y (.inr (k, [.int v, .int a]))) := xx_pl_set E ad sk (e := .inr (k, [.int v, .int a])) hW.2.1 h1 hq
  rw [h2] at hq
  have hq : (xx_cs E ad sk χ)[q0]? = some (y, .inr (k, [.int n, .int a])) := hq
  have kk' : ∀ (H1 : Heap) (locs1 : List Loc), va_P D xx_cl ((xx_cs E ad sk χ).set q0 (y, .inr (k, [.int v, .int a]))) H1 → va_D A ((xx_cs E ad sk χ).set q0 (y, .inr (k, [.int v, .int a]))) → va_S A H0 H1 locs1 → W p l e R s m args below meth c H1 locs1 cells slots Q (F0 m (pc + 3) ls rest) := by
    intro H1 locs1 hP hD hS1
    rw [hset] at hP hD
    exact kk H1 locs1 ⟨hP, hD, hW.2.2⟩ hS1
  have hk : k = 9 ∨ k = 10 ∨ k = 11 ∨ k = 12 ∨ k = 13 ∨ k = 14 := by omega
  rcases hk with h | h | h | h | h | h <;> subst h
  · exact va_put (D := D) (ci := 9) (v := .int v) (ty := .int) (C := RX9) (T := TX9) (N := 2) hx hb hts in_X9 tyX9 tyX9_ok nmX9 hown hW.2.2.1 hW.1 hW.2.1 hS q0 hq rfl 0 (by decide) (hts _ hl) hsame rfl (by decide +kernel) rfl rfl (Nat.le_of_ble_eq_true rfl) hd kk'
  · exact va_put (D := D) (ci := 10) (v := .int v) (ty := .int) (C := RX10) (T := TX10) (N := 2) hx hb hts in_X10 tyX10 tyX10_ok nmX10 hown hW.2.2.1 hW.1 hW.2.1 hS q0 hq rfl 0 (by decide) (hts _ hl) hsame rfl (by decide +kernel) rfl rfl (Nat.le_of_ble_eq_true rfl) hd kk'
  · exact va_put (D := D) (ci := 11) (v := .int v) (ty := .int) (C := RX11) (T := TX11) (N := 2) hx hb hts in_X11 tyX11 tyX11_ok nmX11 hown hW.2.2.1 hW.1 hW.2.1 hS q0 hq rfl 0 (by decide) (hts _ hl) hsame rfl (by decide +kernel) rfl rfl (Nat.le_of_ble_eq_true rfl) hd kk'
  · exact va_put (D := D) (ci := 12) (v := .int v) (ty := .int) (C := RX12) (T := TX12) (N := 2) hx hb hts in_X12 tyX12 tyX12_ok nmX12 hown hW.2.2.1 hW.1 hW.2.1 hS q0 hq rfl 0 (by decide) (hts _ hl) hsame rfl (by decide +kernel) rfl rfl (Nat.le_of_ble_eq_true rfl) hd kk'
  · exact va_put (D := D) (ci := 13) (v := .int v) (ty := .int) (C := RX13) (T := TX13) (N := 2) hx hb hts in_X13 tyX13 tyX13_ok nmX13 hown hW.2.2.1 hW.1 hW.2.1 hS q0 hq rfl 0 (by decide) (hts _ hl) hsame rfl (by decide +kernel) rfl rfl (Nat.le_of_ble_eq_true rfl) hd kk'
  · exact va_put (D := D) (ci := 14) (v := .int v) (ty := .int) (C := RX14) (T := TX14) (N := 2) hx hb hts in_X14 tyX14 tyX14_ok nmX14 hown hW.2.2.1 hW.1 hW.2.1 hS q0 hq rfl 0 (by decide) (hts _ hl) hsame rfl (by decide +kernel) rfl rfl (Nat.le_of_ble_eq_true rfl) hd kk'
theorem xx_gla {own ref : String} (hx : p.tables.exec = Jvm.exec) (hb : c.code = cc) (hts : ∀ w ∈ lw_all, w.before args s = true) (hown : s.vm.findClass own = some m.cls) (hW : xx_W D E A ad sk χ s H) {y k : Nat} {n a : Int32} (hy : xx_gl χ y k n a)
    (hl : Cond.fieldLink own index ref "apron" "I" ∈ lw_all) (hsame : ∀ x, s.fieldFound? "GleanersForGaps$Gleaner" "apron" "I" = some x → s.fieldFound? ref "apron" "I" = some x) (hd : decode cc pc = .ok (.getfield index, 3))
    (kk : W p l e R s m args below meth c H locs cells slots Q (F0 m (pc + 3) ls (.int a :: rest))) : W p l e R s m args below meth c H locs cells slots Q (F0 m pc ls (.ref y :: rest)) := by
  obtain ⟨h1, h2, h3, h4⟩ := hy
  obtain ⟨q0, hq⟩ := xx_pl E ad sk h1
  rw [h2] at hq
  have hq : (xx_cs E ad sk χ)[q0]? = some (y, .inr (k, [.int n, .int a])) := hq
  have hk : k = 9 ∨ k = 10 ∨ k = 11 ∨ k = 12 ∨ k = 13 ∨ k = 14 := by omega
  rcases hk with h | h | h | h | h | h <;> subst h
  · exact va_get (D := D) (ci := 9) (v := .int a) (C := RX9) (T := TX9) (N := 2) hx hb hts in_X9 hown hW.2.2.1 hW.1 q0 hq rfl 1 (by decide) (hts _ hl) hsame rfl hd kk
  · exact va_get (D := D) (ci := 10) (v := .int a) (C := RX10) (T := TX10) (N := 2) hx hb hts in_X10 hown hW.2.2.1 hW.1 q0 hq rfl 1 (by decide) (hts _ hl) hsame rfl hd kk
  · exact va_get (D := D) (ci := 11) (v := .int a) (C := RX11) (T := TX11) (N := 2) hx hb hts in_X11 hown hW.2.2.1 hW.1 q0 hq rfl 1 (by decide) (hts _ hl) hsame rfl hd kk
  · exact va_get (D := D) (ci := 12) (v := .int a) (C := RX12) (T := TX12) (N := 2) hx hb hts in_X12 hown hW.2.2.1 hW.1 q0 hq rfl 1 (by decide) (hts _ hl) hsame rfl hd kk
  · exact va_get (D := D) (ci := 13) (v := .int a) (C := RX13) (T := TX13) (N := 2) hx hb hts in_X13 hown hW.2.2.1 hW.1 q0 hq rfl 1 (by decide) (hts _ hl) hsame rfl hd kk
  · exact va_get (D := D) (ci := 14) (v := .int a) (C := RX14) (T := TX14) (N := 2) hx hb hts in_X14 hown hW.2.2.1 hW.1 q0 hq rfl 1 (by decide) (hts _ hl) hsame rfl hd kk
theorem xx_pgla {own ref : String} (hx : p.tables.exec = Jvm.exec) (hb : c.code = cc) (hts : ∀ w ∈ lw_all, w.before args s = true) (hown : s.vm.findClass own = some m.cls) (hW : xx_W D E A ad sk χ s H) (hS : va_S A H0 H locs) {y k : Nat} {n a v : Int32} (hy : xx_gl χ y k n a)
    (hl : Cond.fieldLink own index ref "apron" "I" ∈ lw_all) (hsame : ∀ x, s.fieldFound? "GleanersForGaps$Gleaner" "apron" "I" = some x → s.fieldFound? ref "apron" "I" = some x) (hd : decode cc pc = .ok (.putfield index, 3))
    (kk : ∀ (H1 : Heap) (locs1 : List Loc), xx_W D E A ad sk (xx_ps χ y (.inr (k, [.int n, .int v]))) s H1 → va_S A H0 H1 locs1 → W p l e R s m args below meth c H1 locs1 cells slots Q (F0 m (pc + 3) ls rest)) : W p l e R s m args below meth c H locs cells slots Q (F0 m pc ls (.int v :: .ref y :: rest)) := by
  obtain ⟨h1, h2, h3, h4⟩ := hy
  obtain ⟨q0, hq⟩ := xx_pl E ad sk h1
  have hset : (xx_cs E ad sk χ).set q0 (y, .inr (k, [.int n, .int v])) = xx_cs E ad sk (xx_ps χ y (.inr (k, [.int n, .int v]))) := xx_pl_set E ad sk (e := .inr (k, [.int n, .int v])) hW.2.1 h1 hq
  rw [h2] at hq
  have hq : (xx_cs E ad sk χ)[q0]? = some (y, .inr (k, [.int n, .int a])) := hq
  have kk' : ∀ (H1 : Heap) (locs1 : List Loc), va_P D xx_cl ((xx_cs E ad sk χ).set q0 (y, .inr (k, [.int n, .int v]))) H1 → va_D A ((xx_cs E ad sk χ).set q0 (y, .inr (k, [.int n, .int v]))) → va_S A H0 H1 locs1 → W p l e R s m args below meth c H1 locs1 cells slots Q (F0 m (pc + 3) ls rest) := by
    intro H1 locs1 hP hD hS1
    rw [hset] at hP hD
    exact kk H1 locs1 ⟨hP, hD, hW.2.2⟩ hS1
  have hk : k = 9 ∨ k = 10 ∨ k = 11 ∨ k = 12 ∨ k = 13 ∨ k = 14 := by omega
  rcases hk with h | h | h | h | h | h <;> subst h
  · exact va_put (D := D) (ci := 9) (v := .int v) (ty := .int) (C := RX9) (T := TX9) (N := 2) hx hb hts in_X9 tyX9 tyX9_ok nmX9 hown hW.2.2.1 hW.1 hW.2.1 hS q0 hq rfl 1 (by decide) (hts _ hl) hsame rfl (by decide +kernel) rfl rfl (Nat.le_of_ble_eq_true rfl) hd kk'
  · exact va_put (D := D) (ci := 10) (v := .int v) (ty := .int) (C := RX10) (T := TX10) (N := 2) hx hb hts in_X10 tyX10 tyX10_ok nmX10 hown hW.2.2.1 hW.1 hW.2.1 hS q0 hq rfl 1 (by decide) (hts _ hl) hsame rfl (by decide +kernel) rfl rfl (Nat.le_of_ble_eq_true rfl) hd kk'
  · exact va_put (D := D) (ci := 11) (v := .int v) (ty := .int) (C := RX11) (T := TX11) (N := 2) hx hb hts in_X11 tyX11 tyX11_ok nmX11 hown hW.2.2.1 hW.1 hW.2.1 hS q0 hq rfl 1 (by decide) (hts _ hl) hsame rfl (by decide +kernel) rfl rfl (Nat.le_of_ble_eq_true rfl) hd kk'
  · exact va_put (D := D) (ci := 12) (v := .int v) (ty := .int) (C := RX12) (T := TX12) (N := 2) hx hb hts in_X12 tyX12 tyX12_ok nmX12 hown hW.2.2.1 hW.1 hW.2.1 hS q0 hq rfl 1 (by decide) (hts _ hl) hsame rfl (by decide +kernel) rfl rfl (Nat.le_of_ble_eq_true rfl) hd kk'
  · exact va_put (D := D) (ci := 13) (v := .int v) (ty := .int) (C := RX13) (T := TX13) (N := 2) hx hb hts in_X13 tyX13 tyX13_ok nmX13 hown hW.2.2.1 hW.1 hW.2.1 hS q0 hq rfl 1 (by decide) (hts _ hl) hsame rfl (by decide +kernel) rfl rfl (Nat.le_of_ble_eq_true rfl) hd kk'
  · exact va_put (D := D) (ci := 14) (v := .int v) (ty := .int) (C := RX14) (T := TX14) (N := 2) hx hb hts in_X14 tyX14 tyX14_ok nmX14 hown hW.2.2.1 hW.1 hW.2.1 hS q0 hq rfl 1 (by decide) (hts _ hl) hsame rfl (by decide +kernel) rfl rfl (Nat.le_of_ble_eq_true rfl) hd kk'
/-- four ints from one array to another -/
theorem xx_copy4 (hx : p.tables.exec = Jvm.exec) (hb : c.code = cc) (hml : c.maxLocals = ls.size) {own : String} (hown : s.vm.findClass own = some m.cls) (hlink : (Cond.methodLink own index arraycopyName).before args s = true) (hnat : (Cond.native arraycopyName).before args s = true) (hstat : (Cond.static arraycopyName).before args s = true) (hini : (Cond.initialized "java/lang/System").before args s = true)
    (hW : xx_W D E A ad sk χ s H) (hS : va_S A H0 H locs) (i0 i1 : Nat) {n0 n1 : Nat} (h0 : 1 ≤ i0 ∧ i0 < 30) (e0 : xx_len i0 = n0) (h1 : 1 ≤ i1 ∧ i1 < 30) (e1 : xx_len i1 = n1) (hframes : 1 ≤ R.frames) (hlocals : (rest.map fun v => v.category).sum + (nativeFrameWords "java/lang/System" "arraycopy" 5 + 11) ≤ R.locals) (hd : decode cc pc = .ok (.invokestatic index, 3))
    (kk : ∀ (H1 : Heap) (locs1 : List Loc), xx_W D E A ad sk (xx_sr χ i1 (fun q => if q < 4 then xx_g χ i0 q else xx_g χ i1 q)) s H1 → va_S A H0 H1 locs1 → W p l e R s m args below meth c H1 locs1 cells slots Q (F0 m (pc + 3) ls rest)) (h4 : 4 ≤ n0 ∧ 4 ≤ n1 := by exact ⟨Nat.le_of_ble_eq_true rfl, Nat.le_of_ble_eq_true rfl⟩) : W p l e R s m args below meth c H locs cells slots Q (F0 m pc ls (.int 4 :: .int 0 :: .ref (ad i1) :: .int 0 :: .ref (ad i0) :: rest)) := by
  have z4 : (4 : Int32).toNatClampNeg = 4 := by decide
  have z0 : (0 : Int32).toNatClampNeg = 0 := by decide
  refine va_copyi (c0 := E 0) (c1 := E 0) (n0 := n0) (n1 := n1) (f := xx_g χ i0) (g := xx_g χ i1) (ty := .int) hx hb hml hown hlink hnat hstat hini hW.2.2.1 hW.1 hW.2.1 hS i0 i1 0 0 (by rw [xx_cs_at E ad sk χ (by omega), xx_c_int E ad sk χ h0.1 h0.2, e0]) (by rw [xx_cs_at E ad sk χ (by omega), xx_c_int E ad sk χ h1.1 h1.2, e1]) rfl rfl rfl (by decide) (by decide) (by decide) (by rw [z4, z0]; omega) (by rw [z4, z0]; omega) (fun _ _ => rfl) hframes hlocals hd (fun H1 locs1 hP hD hS1 => ?_)
  have hcs : (xx_cs E ad sk χ).set i1 (ad i1, .inl (E 0, n1, .inl (va_cpy (xx_g χ i0) (xx_g χ i1) (0 : Int32).toNatClampNeg (0 : Int32).toNatClampNeg (4 : Int32).toNatClampNeg))) = xx_cs E ad sk (xx_sr χ i1 (fun q => if q < 4 then xx_g χ i0 q else xx_g χ i1 q)) := by
    refine xx_cs_set E ad sk (by omega) ?_ (fun q _ hq => xx_c_eq E ad sk (fun t => by rw [xx_gsr, if_neg hq]) (fun t => rfl)) rfl rfl
    rw [xx_c_int E ad sk _ h1.1 h1.2, e1]
    congr 4
    funext q
    rw [xx_gsr, if_pos rfl, z4, z0]
    unfold va_cpy
    by_cases h : q < 4 <;> simp [h]
  rw [hcs] at hP hD
  exact kk H1 locs1 ⟨hP, hD, hW.2.2⟩ hS1
theorem xx_b8 {i : Int32} (h : vp_in i 6) : 1 ≤ 8 + i.toNatClampNeg ∧ 8 + i.toNatClampNeg < 30 := by have h1 : i.toNatClampNeg < 6 := Nat.not_le.mp fun q => h (Or.inr q); omega
theorem xx_b14 {i : Int32} (h : vp_in i 6) : 1 ≤ 14 + i.toNatClampNeg ∧ 14 + i.toNatClampNeg < 30 := by have h1 : i.toNatClampNeg < 6 := Nat.not_le.mp fun q => h (Or.inr q); omega
theorem xx_b20 {i : Int32} (h : vp_in i 6) : 1 ≤ 20 + i.toNatClampNeg ∧ 20 + i.toNatClampNeg < 30 := by have h1 : i.toNatClampNeg < 6 := Nat.not_le.mp fun q => h (Or.inr q); omega
theorem xx_b26 {i : Int32} (h : vp_in i 2) : 1 ≤ 26 + i.toNatClampNeg ∧ 26 + i.toNatClampNeg < 30 := by have h1 : i.toNatClampNeg < 2 := Nat.not_le.mp fun q => h (Or.inr q); omega
theorem xx_b28 {i : Int32} (h : vp_in i 2) : 1 ≤ 28 + i.toNatClampNeg ∧ 28 + i.toNatClampNeg < 30 := by have h1 : i.toNatClampNeg < 2 := Nat.not_le.mp fun q => h (Or.inr q); omega
theorem xx_l8 {i : Int32} (h : vp_in i 6) : xx_len (8 + i.toNatClampNeg) = 5 := by have h1 : i.toNatClampNeg < 6 := Nat.not_le.mp fun q => h (Or.inr q); unfold xx_len; rw [if_neg (by omega), if_neg (by omega), if_neg (by omega), if_neg (by omega), if_neg (by omega), if_pos (by omega)]
theorem xx_l14 {i : Int32} (h : vp_in i 6) : xx_len (14 + i.toNatClampNeg) = 4 := by have h1 : i.toNatClampNeg < 6 := Nat.not_le.mp fun q => h (Or.inr q); unfold xx_len; rw [if_neg (by omega), if_neg (by omega), if_neg (by omega), if_neg (by omega), if_neg (by omega), if_neg (by omega), if_pos (by omega)]
theorem xx_l20 {i : Int32} (h : vp_in i 6) : xx_len (20 + i.toNatClampNeg) = 4 := by have h1 : i.toNatClampNeg < 6 := Nat.not_le.mp fun q => h (Or.inr q); unfold xx_len; rw [if_neg (by omega), if_neg (by omega), if_neg (by omega), if_neg (by omega), if_neg (by omega), if_neg (by omega), if_pos (by omega)]
theorem xx_l26 {i : Int32} (h : vp_in i 2) : xx_len (26 + i.toNatClampNeg) = 4 := by have h1 : i.toNatClampNeg < 2 := Nat.not_le.mp fun q => h (Or.inr q); unfold xx_len; rw [if_neg (by omega), if_neg (by omega), if_neg (by omega), if_neg (by omega), if_neg (by omega), if_neg (by omega), if_pos (by omega)]
theorem xx_l28 {i : Int32} (h : vp_in i 2) : xx_len (28 + i.toNatClampNeg) = 5 := by have h1 : i.toNatClampNeg < 2 := Nat.not_le.mp fun q => h (Or.inr q); unfold xx_len; rw [if_neg (by omega), if_neg (by omega), if_neg (by omega), if_neg (by omega), if_neg (by omega), if_neg (by omega), if_neg (by omega), if_pos (by omega)]
end XXROWS
section XXCALLS
variable {p : Program} {l : Launch} {e : Env} {R : Room} {s : State} {m : MethodId} {args : Array Value} {below : List Frame} {meth : Method} {c : Code} {H : Heap} {locs : List Loc} {cells slots : Nat} {Q : State → Prop}
variable {D : va_G} {E : Nat → ClassId} {A : Nat → Prop} {ad sk : Nat → Nat} {χ : xx_S} {H0 : Heap}
/-- a gleaner's class, as calls through it ask it -/
def xx_CN (k : Nat) : String := if k = 9 then RX9 else if k = 10 then RX10 else if k = 11 then RX11 else if k = 12 then RX12 else if k = 13 then RX13 else RX14
theorem xx_glrecv (hW : xx_W D E A ad sk χ s H) {y k : Nat} {n a : Int32} (hy : xx_gl χ y k n a) : (∃ cell : Cell, H[y]? = some cell ∧ cell.vm.isStatics = false ∧ s.vm.findClass (xx_CN k) = some cell.cls) ∧ ∃ cC, ClassAt s (xx_CN k) cC := by
  obtain ⟨h1, h2, h3, h4⟩ := hy
  obtain ⟨q0, hq⟩ := xx_pl E ad sk h1
  rw [h2] at hq
  have hq : (xx_cs E ad sk χ)[q0]? = some (y, .inr (k, [.int n, .int a])) := hq
  have hk : k = 9 ∨ k = 10 ∨ k = 11 ∨ k = 12 ∨ k = 13 ∨ k = 14 := by omega
  rcases hk with h | h | h | h | h | h <;> subst h
  · exact ⟨va_recv hW.2.2.1 hW.1 (ci := 9) (q0 := q0) rfl hq, _, (hW.2.2.1.1 9 _ rfl).2⟩
  · exact ⟨va_recv hW.2.2.1 hW.1 (ci := 10) (q0 := q0) rfl hq, _, (hW.2.2.1.1 10 _ rfl).2⟩
  · exact ⟨va_recv hW.2.2.1 hW.1 (ci := 11) (q0 := q0) rfl hq, _, (hW.2.2.1.1 11 _ rfl).2⟩
  · exact ⟨va_recv hW.2.2.1 hW.1 (ci := 12) (q0 := q0) rfl hq, _, (hW.2.2.1.1 12 _ rfl).2⟩
  · exact ⟨va_recv hW.2.2.1 hW.1 (ci := 13) (q0 := q0) rfl hq, _, (hW.2.2.1.1 13 _ rfl).2⟩
  · exact ⟨va_recv hW.2.2.1 hW.1 (ci := 14) (q0 := q0) rfl hq, _, (hW.2.2.1.1 14 _ rfl).2⟩
end XXCALLS
section XXCALLS2
variable {p : Program} {l : Launch} {e : Env} {R : Room} {s : State} {m : MethodId} {args : Array Value} {below : List Frame} {meth : Method} {c : Code} {H : Heap} {locs : List Loc} {cells slots : Nat} {Q : State → Prop}
variable {cc bytes : ByteArray} {pc nL maxL n index : Nat} {ls : Array Slot} {rest st : List Value} {ret : Option FieldType} {hh : List (Nat × Nat × Nat × Nat)} {ws : List Cond} {rm : Room} {Ts : List Cond} {own C : String} {y : MethodName} {b : Addr} {As : List Value}
variable {D : va_G} {E : Nat → ClassId} {A : Nat → Prop} {ad sk : Nat → Nat} {σ : xx_S}
theorem xx_toV (hW : xx_W D E A ad sk σ s H) (hA : xx_A sk A s) (hS : va_S A s.heap H locs) : xx_V D E A ad sk σ s H := ⟨hW, hA.1, fun q hq => hA.2.1 q (Nat.le_trans hS.1 hq), hA.2.2.kept hS.2.1⟩
theorem xx_VI {Q1 : Int32 → xx_S → Prop} (S : CallFix p m c cc nL s args Ts own) (hA : xx_A sk A s)
    (hM : Met l y ws rm (va_Pc (.ref b :: As) (fun U => xx_V D E A ad sk σ U U.heap)) (va_Qi Q1 (fun u t => xx_W D E A ad sk u t t.heap) A) 0 0 A) (cw : CallW R s args own C index y bytes maxL ret ws rm 0 0 n)
    (hW : xx_W D E A ad sk σ s H) (hrecv : ∃ cell : Cell, H[b]? = some cell ∧ cell.vm.isStatics = false ∧ s.vm.findClass C = some cell.cls) (hS : va_S A s.heap H locs) (hn : As.length = n) (hsize : ls.size = nL) (hst : st = As.reverse ++ .ref b :: rest)
    (hw8 : (rest.map fun v => v.category).sum ≤ 8) (hd : decode cc pc = .ok (.invokevirtual index, 3))
    (kk : ∀ (r : Int32) (u1 : xx_S) (H1 : Heap) (locs1 : List Loc), Q1 r u1 → xx_W D E A ad sk u1 s H1 → va_S A s.heap H1 locs1 → W p l e R s m args below meth c H1 locs1 0 0 Q (F0 m (pc + 3) ls (.int r :: rest))) :
    W p l e R s m args below meth c H locs 0 0 Q (F0 m pc ls st) :=
  gg_VI (W0 := fun s H => xx_V D E A ad sk σ s H) (xx_mv0 D E A ad sk σ) (xx_mv D E A ad sk) S hM cw (xx_toV hW hA hS) hrecv hS hn hsize hst hw8 hd ⟨Nat.zero_le _, Nat.zero_le _⟩ kk
theorem xx_SI {Q1 : Int32 → xx_S → Prop} (S : CallFix p m c cc nL s args Ts own) (hA : xx_A sk A s)
    (hM : Met l y ws rm (va_Pc As (fun U => xx_V D E A ad sk σ U U.heap)) (va_Qi Q1 (fun u t => xx_W D E A ad sk u t t.heap) A) 0 0 A) (cw : CallB R s args own index y bytes maxL ret ws rm 0 0 n ∧ (Cond.static y).before args s = true)
    (hW : xx_W D E A ad sk σ s H) (hS : va_S A s.heap H locs) (hn : As.length = n) (hsize : ls.size = nL) (hst : st = As.reverse ++ rest)
    (hw8 : (rest.map fun v => v.category).sum ≤ 8) (hd : decode cc pc = .ok (.invokestatic index, 3))
    (kk : ∀ (r : Int32) (u1 : xx_S) (H1 : Heap) (locs1 : List Loc), Q1 r u1 → xx_W D E A ad sk u1 s H1 → va_S A s.heap H1 locs1 → W p l e R s m args below meth c H1 locs1 0 0 Q (F0 m (pc + 3) ls (.int r :: rest))) :
    W p l e R s m args below meth c H locs 0 0 Q (F0 m pc ls st) :=
  gg_SI (W0 := fun s H => xx_V D E A ad sk σ s H) (xx_mv0 D E A ad sk σ) (xx_mv D E A ad sk) S hM cw (xx_toV hW hA hS) hS hn hsize hst hw8 hd ⟨Nat.zero_le _, Nat.zero_le _⟩ kk
theorem xx_WI {Q1 : Int32 → xx_S → Prop} (S : CallFix p m c cc nL s args Ts own) (hA : xx_A sk A s)
    (hM : Met l y ws rm (va_Pc (.ref b :: As) (fun U => xx_V D E A ad sk σ U U.heap)) (va_Qi Q1 (fun u t => xx_W D E A ad sk u t t.heap) A) 0 0 A) (cw : vx_CVW R s args own C index y bytes maxL ret hh ws rm 0 0 n)
    (hW : xx_W D E A ad sk σ s H) (hrecv : ∃ cell : Cell, H[b]? = some cell ∧ cell.vm.isStatics = false ∧ s.vm.findClass C = some cell.cls) (hS : va_S A s.heap H locs) (hn : As.length = n) (hsize : ls.size = nL) (hst : st = As.reverse ++ .ref b :: rest)
    (hw8 : (rest.map fun v => v.category).sum ≤ 8) (hd : decode cc pc = .ok (.invokevirtual index, 3))
    (kk : ∀ (r : Int32) (u1 : xx_S) (H1 : Heap) (locs1 : List Loc), Q1 r u1 → xx_W D E A ad sk u1 s H1 → va_S A s.heap H1 locs1 → W p l e R s m args below meth c H1 locs1 0 0 Q (F0 m (pc + 3) ls (.int r :: rest))) :
    W p l e R s m args below meth c H locs 0 0 Q (F0 m pc ls st) :=
  gg_WI (W0 := fun s H => xx_V D E A ad sk σ s H) (xx_mv0 D E A ad sk σ) (xx_mv D E A ad sk) S hM cw (xx_toV hW hA hS) hrecv hS hn hsize hst hw8 hd ⟨Nat.zero_le _, Nat.zero_le _⟩ kk
theorem xx_VJ {Q1 : Int64 → xx_S → Prop} (S : CallFix p m c cc nL s args Ts own) (hA : xx_A sk A s)
    (hM : Met l y ws rm (va_Pc (.ref b :: As) (fun U => xx_V D E A ad sk σ U U.heap)) (va_Ql Q1 (fun u t => xx_W D E A ad sk u t t.heap) A) 0 0 A) (cw : CallW R s args own C index y bytes maxL ret ws rm 0 0 n)
    (hW : xx_W D E A ad sk σ s H) (hrecv : ∃ cell : Cell, H[b]? = some cell ∧ cell.vm.isStatics = false ∧ s.vm.findClass C = some cell.cls) (hS : va_S A s.heap H locs) (hn : As.length = n) (hsize : ls.size = nL) (hst : st = As.reverse ++ .ref b :: rest)
    (hw8 : (rest.map fun v => v.category).sum ≤ 8) (hd : decode cc pc = .ok (.invokevirtual index, 3))
    (kk : ∀ (r : Int64) (u1 : xx_S) (H1 : Heap) (locs1 : List Loc), Q1 r u1 → xx_W D E A ad sk u1 s H1 → va_S A s.heap H1 locs1 → W p l e R s m args below meth c H1 locs1 0 0 Q (F0 m (pc + 3) ls (.long r :: rest))) :
    W p l e R s m args below meth c H locs 0 0 Q (F0 m pc ls st) :=
  gg_VJ (W0 := fun s H => xx_V D E A ad sk σ s H) (xx_mv0 D E A ad sk σ) (xx_mv D E A ad sk) S hM cw (xx_toV hW hA hS) hrecv hS hn hsize hst hw8 hd ⟨Nat.zero_le _, Nat.zero_le _⟩ kk
theorem xx_SJ {Q1 : Int64 → xx_S → Prop} (S : CallFix p m c cc nL s args Ts own) (hA : xx_A sk A s)
    (hM : Met l y ws rm (va_Pc As (fun U => xx_V D E A ad sk σ U U.heap)) (va_Ql Q1 (fun u t => xx_W D E A ad sk u t t.heap) A) 0 0 A) (cw : CallB R s args own index y bytes maxL ret ws rm 0 0 n ∧ (Cond.static y).before args s = true)
    (hW : xx_W D E A ad sk σ s H) (hS : va_S A s.heap H locs) (hn : As.length = n) (hsize : ls.size = nL) (hst : st = As.reverse ++ rest)
    (hw8 : (rest.map fun v => v.category).sum ≤ 8) (hd : decode cc pc = .ok (.invokestatic index, 3))
    (kk : ∀ (r : Int64) (u1 : xx_S) (H1 : Heap) (locs1 : List Loc), Q1 r u1 → xx_W D E A ad sk u1 s H1 → va_S A s.heap H1 locs1 → W p l e R s m args below meth c H1 locs1 0 0 Q (F0 m (pc + 3) ls (.long r :: rest))) :
    W p l e R s m args below meth c H locs 0 0 Q (F0 m pc ls st) :=
  gg_SJ (W0 := fun s H => xx_V D E A ad sk σ s H) (xx_mv0 D E A ad sk σ) (xx_mv D E A ad sk) S hM cw (xx_toV hW hA hS) hS hn hsize hst hw8 hd ⟨Nat.zero_le _, Nat.zero_le _⟩ kk
theorem xx_WJ {Q1 : Int64 → xx_S → Prop} (S : CallFix p m c cc nL s args Ts own) (hA : xx_A sk A s)
    (hM : Met l y ws rm (va_Pc (.ref b :: As) (fun U => xx_V D E A ad sk σ U U.heap)) (va_Ql Q1 (fun u t => xx_W D E A ad sk u t t.heap) A) 0 0 A) (cw : vx_CVW R s args own C index y bytes maxL ret hh ws rm 0 0 n)
    (hW : xx_W D E A ad sk σ s H) (hrecv : ∃ cell : Cell, H[b]? = some cell ∧ cell.vm.isStatics = false ∧ s.vm.findClass C = some cell.cls) (hS : va_S A s.heap H locs) (hn : As.length = n) (hsize : ls.size = nL) (hst : st = As.reverse ++ .ref b :: rest)
    (hw8 : (rest.map fun v => v.category).sum ≤ 8) (hd : decode cc pc = .ok (.invokevirtual index, 3))
    (kk : ∀ (r : Int64) (u1 : xx_S) (H1 : Heap) (locs1 : List Loc), Q1 r u1 → xx_W D E A ad sk u1 s H1 → va_S A s.heap H1 locs1 → W p l e R s m args below meth c H1 locs1 0 0 Q (F0 m (pc + 3) ls (.long r :: rest))) :
    W p l e R s m args below meth c H locs 0 0 Q (F0 m pc ls st) :=
  gg_WJ (W0 := fun s H => xx_V D E A ad sk σ s H) (xx_mv0 D E A ad sk σ) (xx_mv D E A ad sk) S hM cw (xx_toV hW hA hS) hrecv hS hn hsize hst hw8 hd ⟨Nat.zero_le _, Nat.zero_le _⟩ kk
theorem xx_VV {Q1 : xx_S → Prop} (S : CallFix p m c cc nL s args Ts own) (hA : xx_A sk A s)
    (hM : Met l y ws rm (va_Pc (.ref b :: As) (fun U => xx_V D E A ad sk σ U U.heap)) (va_Qv Q1 (fun u t => xx_W D E A ad sk u t t.heap) A) 0 0 A) (cw : CallW R s args own C index y bytes maxL ret ws rm 0 0 n)
    (hW : xx_W D E A ad sk σ s H) (hrecv : ∃ cell : Cell, H[b]? = some cell ∧ cell.vm.isStatics = false ∧ s.vm.findClass C = some cell.cls) (hS : va_S A s.heap H locs) (hn : As.length = n) (hsize : ls.size = nL) (hst : st = As.reverse ++ .ref b :: rest)
    (hw8 : (rest.map fun v => v.category).sum ≤ 8) (hd : decode cc pc = .ok (.invokevirtual index, 3))
    (kk : ∀ (u1 : xx_S) (H1 : Heap) (locs1 : List Loc), Q1 u1 → xx_W D E A ad sk u1 s H1 → va_S A s.heap H1 locs1 → W p l e R s m args below meth c H1 locs1 0 0 Q (F0 m (pc + 3) ls rest)) :
    W p l e R s m args below meth c H locs 0 0 Q (F0 m pc ls st) :=
  gg_VV (W0 := fun s H => xx_V D E A ad sk σ s H) (xx_mv0 D E A ad sk σ) (xx_mv D E A ad sk) S hM cw (xx_toV hW hA hS) hrecv hS hn hsize hst hw8 hd ⟨Nat.zero_le _, Nat.zero_le _⟩ kk
end XXCALLS2
