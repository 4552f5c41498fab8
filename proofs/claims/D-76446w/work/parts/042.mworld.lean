/-! THE REFERENCE'S WORLD: one object, 21 arrays of ints; cell 0: its fields, cell i: its i-th array -/
def mm_ref : Nat → Option Nat := fun k => match k with
  | 1 => some 1
  | 2 => some 2
  | 5 => some 3
  | 8 => some 4
  | 9 => some 5
  | 10 => some 6
  | 11 => some 7
  | 28 => some 8
  | 29 => some 9
  | 30 => some 10
  | 31 => some 11
  | 32 => some 12
  | 33 => some 13
  | 34 => some 14
  | 37 => some 15
  | 38 => some 16
  | 39 => some 17
  | 43 => some 18
  | 44 => some 19
  | 45 => some 20
  | 46 => some 21
  | _ => none
def mm_len : Nat → Nat := fun i => match i with
  | 1 => 960
  | 2 => 6
  | 3 => 160
  | 4 => 5
  | 5 => 5
  | 6 => 5
  | 7 => 10
  | 8 => 24
  | 9 => 24
  | 10 => 24
  | 11 => 5
  | 12 => 5
  | 13 => 4
  | 14 => 21
  | 15 => 4
  | 16 => 4
  | 17 => 10
  | 18 => 4
  | 19 => 4
  | 20 => 4
  | _ => 160
/-- a field's value -/
def mm_fv (ad : Nat → Nat) (σ : gg_S) (k : Nat) : Value := match mm_ref k with
  | some i => .ref (ad i)
  | none => if k = 24 then .long σ.2 else .int (gg_g σ 0 k)
def mm_fs (ad : Nat → Nat) (σ : gg_S) : List Value := (List.range 47).map (mm_fv ad σ)
/-- the array's class -/
def mm_ca (E : ClassId × ClassId) (i : Nat) : ClassId := if i = 18 then E.2 else E.1
def mm_ar (E : ClassId × ClassId) (ad : Nat → Nat) (σ : gg_S) (j : Nat) : Nat × va_E := (ad (j + 1), .inl (mm_ca E (j + 1), mm_len (j + 1), .inl (gg_g σ (j + 1))))
def mm_cs (E : ClassId × ClassId) (ad : Nat → Nat) (σ : gg_S) : va_W := (ad 0, .inr (8, mm_fs ad σ)) :: (List.range 21).map (mm_ar E ad σ)
abbrev mm_tys (E : ClassId × ClassId) : List (ClassId × FieldType) := [(E.1, .int), (E.2, .boolean)]
/-- the world: the cells hold σ, apart, in A; the tables know the classes -/
def mm_W (D : va_G) (cl : List vw_C) (E : ClassId × ClassId) (A : Nat → Prop) (ad : Nat → Nat) (σ : gg_S) (s : State) (H : Heap) : Prop :=
  cl[8]? = some (RX8, TX8, 47) ∧ va_P D cl (mm_cs E ad σ) H ∧ va_D A (mm_cs E ad σ) ∧ va_K D cl (mm_tys E) s
theorem mm_mv (D : va_G) (cl : List vw_C) (E : ClassId × ClassId) (A : Nat → Prop) (ad : Nat → Nat) : gg_Mv (fun σ s H => mm_W D cl E A ad σ s H) :=
  fun _ _ _ _ ha h => ⟨h.1, h.2.1, h.2.2.1, va_K.moved ha h.2.2.2⟩
theorem mm_mv0 (D : va_G) (cl : List vw_C) (E : ClassId × ClassId) (A : Nat → Prop) (ad : Nat → Nat) (σ : gg_S) : gg_Mv0 (fun s H => mm_W D cl E A ad σ s H) := fun s U H hw h => mm_mv D cl E A ad σ s U H hw.alike h
theorem mm_fs_len (ad : Nat → Nat) (σ : gg_S) : (mm_fs ad σ).length = 47 := by simp [mm_fs]
theorem mm_fs_at (ad : Nat → Nat) (σ : gg_S) {k : Nat} (hk : k < 47) : (mm_fs ad σ)[k]? = some (mm_fv ad σ k) := by
  unfold mm_fs
  rw [List.getElem?_map, List.getElem?_range hk]
  rfl
theorem mm_cs_at (E : ClassId × ClassId) (ad : Nat → Nat) (σ : gg_S) {j : Nat} (hj : j < 21) : (mm_cs E ad σ)[j + 1]? = some (mm_ar E ad σ j) := by
  unfold mm_cs
  rw [List.getElem?_cons_succ, List.getElem?_map, List.getElem?_range hj]
  rfl
/-- two lists of a length, place by place -/
theorem mm_ext {α : Type} {n : Nat} {f g : Nat → α} (h : ∀ i, i < n → f i = g i) : (List.range n).map f = (List.range n).map g := List.map_congr_left (fun a ha => h a (List.mem_range.mp ha))
theorem mm_set {α : Type} {n k : Nat} {f g : Nat → α} {v : α} (hv : g k = v) (h : ∀ i, i < n → i ≠ k → f i = g i) : ((List.range n).map f).set k v = (List.range n).map g := by
  refine List.ext_getElem? (fun i => ?_)
  by_cases hi : i < n
  · by_cases hk : i = k
    · subst hk
      rw [List.getElem?_set_self (by simpa using hi), List.getElem?_map, List.getElem?_range hi]
      simp [hv]
    · rw [List.getElem?_set_ne (Ne.symm hk), List.getElem?_map, List.getElem?_map, List.getElem?_range hi]
      simp [h i hi hk]
  · rw [List.getElem?_eq_none (by simp; omega), List.getElem?_eq_none (by simp; omega)]
theorem mm_fs_set (ad : Nat → Nat) (σ : gg_S) (k : Nat) (v : Int32) (hr : mm_ref k = none) (hk : k ≠ 24) : (mm_fs ad σ).set k (.int v) = mm_fs ad (gg_s σ 0 k v) := by
  unfold mm_fs
  refine mm_set ?_ (fun i hi hik => ?_)
  · unfold mm_fv
    rw [hr]
    simp [hk, gg_gs]
  · unfold mm_fv
    cases mm_ref i with
    | some x => rfl
    | none => simp [gg_gs, hik, gg_ws]
theorem mm_fs_setW (ad : Nat → Nat) (σ : gg_S) (v : Int64) : (mm_fs ad σ).set 24 (.long v) = mm_fs ad (gg_w σ v) := by
  unfold mm_fs
  refine mm_set ?_ (fun i hi hik => ?_)
  · rfl
  · unfold mm_fv
    cases mm_ref i with
    | some x => rfl
    | none => simp [gg_gw, hik]
theorem mm_fs_row (ad : Nat → Nat) (σ : gg_S) (i k : Nat) (v : Int32) (hi : i ≠ 0) : mm_fs ad (gg_s σ i k v) = mm_fs ad σ := by
  unfold mm_fs
  refine mm_ext (fun q _ => ?_)
  unfold mm_fv
  cases mm_ref q with
  | some x => rfl
  | none => simp [gg_gs, gg_ws, Ne.symm hi]
theorem mm_cs_set0 (E : ClassId × ClassId) (ad : Nat → Nat) (σ : gg_S) (k : Nat) (v : Int32) (hr : mm_ref k = none) (hk : k ≠ 24) : (mm_cs E ad σ).set 0 (ad 0, .inr (8, (mm_fs ad σ).set k (.int v))) = mm_cs E ad (gg_s σ 0 k v) := by
  unfold mm_cs
  rw [List.set_cons_zero, mm_fs_set ad σ k v hr hk]
  congr 1
theorem mm_cs_setW (E : ClassId × ClassId) (ad : Nat → Nat) (σ : gg_S) (v : Int64) : (mm_cs E ad σ).set 0 (ad 0, .inr (8, (mm_fs ad σ).set 24 (.long v))) = mm_cs E ad (gg_w σ v) := by
  unfold mm_cs
  rw [List.set_cons_zero, mm_fs_setW ad σ v]
  congr 1
theorem mm_cs_setA (E : ClassId × ClassId) (ad : Nat → Nat) (σ : gg_S) (j k : Nat) (v : Int32) (f : Nat → Int32) (hf : f = upd (gg_g σ (j + 1)) k v) : (mm_cs E ad σ).set (j + 1) (ad (j + 1), .inl (mm_ca E (j + 1), mm_len (j + 1), .inl f)) = mm_cs E ad (gg_s σ (j + 1) k v) := by
  subst hf
  unfold mm_cs
  rw [List.set_cons_succ, mm_fs_row ad σ (j + 1) k v (by omega)]
  congr 1
  refine mm_set ?_ (fun i hi hik => ?_)
  · unfold mm_ar
    rw [gg_rowS]
  · unfold mm_ar
    rw [gg_row σ (j + 1) k v (by omega)]
theorem mm_T1 (k : Nat) : (TX8 k).1 = RX8 := by unfold TX8; split <;> rfl
section MMROWS
variable {p : Program} {l : Launch} {e : Env} {R : Room} {s : State} {m : MethodId} {args : Array Value} {below : List Frame} {meth : Method} {c : Code} {H : Heap} {locs : List Loc} {cells slots : Nat} {Q : State → Prop}
variable {cc : ByteArray} {pc index : Nat} {ls : Array Slot} {rest : List Value} {D : va_G} {cl : List vw_C} {E : ClassId × ClassId} {A : Nat → Prop} {ad : Nat → Nat} {σ : gg_S} {H0 : Heap}
theorem mm_recv (hW : mm_W D cl E A ad σ s H) : ∃ cell : Cell, H[ad 0]? = some cell ∧ cell.vm.isStatics = false ∧ s.vm.findClass RX8 = some cell.cls :=
  va_recv hW.2.2.2 hW.2.1 (ci := 8) (q0 := 0) hW.1 rfl
theorem mm_geti (hx : p.tables.exec = Jvm.exec) (hb : c.code = cc) (hts : ∀ w ∈ lw_all, w.before args s = true) (hown : s.vm.findClass RX8 = some m.cls) (hW : mm_W D cl E A ad σ s H) (k : Nat) (hk : decide (k < 47 ∧ k ≠ 24 ∧ mm_ref k = none) = true)
    (hl : Cond.fieldLink RX8 index RX8 (TX8 k).2.1 (TX8 k).2.2.1 ∈ lw_all) (hd : decode cc pc = .ok (.getfield index, 3))
    (kk : W p l e R s m args below meth c H locs cells slots Q (F0 m (pc + 3) ls (.int (gg_g σ 0 k) :: rest))) : W p l e R s m args below meth c H locs cells slots Q (F0 m pc ls (.ref (ad 0) :: rest)) := by
  obtain ⟨k1, k2, k3⟩ := of_decide_eq_true hk
  refine va_get (D := D) (ci := 8) (v := .int (gg_g σ 0 k)) (C := RX8) (T := TX8) (N := 47) hx hb hts in_X8 hown hW.2.2.2 hW.2.1 0 rfl hW.1 k k1 (hts _ hl) (fun _ h9 => by rw [mm_T1] at h9; exact h9) ?_ hd kk
  rw [mm_fs_at ad σ k1]
  unfold mm_fv
  rw [k3]
  simp [k2]
theorem mm_getw (hx : p.tables.exec = Jvm.exec) (hb : c.code = cc) (hts : ∀ w ∈ lw_all, w.before args s = true) (hown : s.vm.findClass RX8 = some m.cls) (hW : mm_W D cl E A ad σ s H)
    (hl : Cond.fieldLink RX8 index RX8 (TX8 24).2.1 (TX8 24).2.2.1 ∈ lw_all) (hd : decode cc pc = .ok (.getfield index, 3))
    (kk : W p l e R s m args below meth c H locs cells slots Q (F0 m (pc + 3) ls (.long σ.2 :: rest))) : W p l e R s m args below meth c H locs cells slots Q (F0 m pc ls (.ref (ad 0) :: rest)) :=
  va_get (D := D) (ci := 8) (v := .long σ.2) (C := RX8) (T := TX8) (N := 47) hx hb hts in_X8 hown hW.2.2.2 hW.2.1 0 rfl hW.1 24 (by decide) (hts _ hl) (fun _ h9 => h9) (mm_fs_at ad σ (by decide)) hd kk
theorem mm_getr (hx : p.tables.exec = Jvm.exec) (hb : c.code = cc) (hts : ∀ w ∈ lw_all, w.before args s = true) (hown : s.vm.findClass RX8 = some m.cls) (hW : mm_W D cl E A ad σ s H) (k i : Nat) (hk : decide (k < 47 ∧ mm_ref k = some i) = true)
    (hl : Cond.fieldLink RX8 index RX8 (TX8 k).2.1 (TX8 k).2.2.1 ∈ lw_all) (hd : decode cc pc = .ok (.getfield index, 3))
    (kk : W p l e R s m args below meth c H locs cells slots Q (F0 m (pc + 3) ls (.ref (ad i) :: rest))) : W p l e R s m args below meth c H locs cells slots Q (F0 m pc ls (.ref (ad 0) :: rest)) := by
  obtain ⟨k1, k3⟩ := of_decide_eq_true hk
  refine va_get (D := D) (ci := 8) (v := .ref (ad i)) (C := RX8) (T := TX8) (N := 47) hx hb hts in_X8 hown hW.2.2.2 hW.2.1 0 rfl hW.1 k k1 (hts _ hl) (fun _ h9 => by rw [mm_T1] at h9; exact h9) ?_ hd kk
  rw [mm_fs_at ad σ k1]
  unfold mm_fv
  rw [k3]
theorem mm_puti (hx : p.tables.exec = Jvm.exec) (hb : c.code = cc) (hts : ∀ w ∈ lw_all, w.before args s = true) (hown : s.vm.findClass RX8 = some m.cls) (hW : mm_W D cl E A ad σ s H) (hS : va_S A H0 H locs) (k : Nat) (hk : decide (k < 47 ∧ k ≠ 24 ∧ mm_ref k = none) = true)
    (hl : Cond.fieldLink RX8 index RX8 (TX8 k).2.1 (TX8 k).2.2.1 ∈ lw_all) (hfin : (TX8 k).2.2.2 = false) {v : Int32} (hn : narrow (tyX8 k) (.int v) = .int v) (hfit : fits (tyX8 k) (.int v) = true) (hd : decode cc pc = .ok (.putfield index, 3))
    (kk : ∀ (H1 : Heap) (locs1 : List Loc), mm_W D cl E A ad (gg_s σ 0 k v) s H1 → va_S A H0 H1 locs1 → W p l e R s m args below meth c H1 locs1 cells slots Q (F0 m (pc + 3) ls rest)) : W p l e R s m args below meth c H locs cells slots Q (F0 m pc ls (.int v :: .ref (ad 0) :: rest)) := by
  obtain ⟨k1, k2, k3⟩ := of_decide_eq_true hk
  refine va_put (D := D) (ci := 8) (v := .int v) (C := RX8) (T := TX8) (N := 47) hx hb hts in_X8 tyX8 tyX8_ok nmX8 hown hW.2.2.2 hW.2.1 hW.2.2.1 hS 0 rfl hW.1 k k1 (hts _ hl) (fun _ h9 => by rw [mm_T1] at h9; exact h9) hfin (tyX8_ok k k1) hn hfit (by rw [mm_fs_len]; exact k1) hd (fun H1 locs1 hP hD hS1 => ?_)
  rw [mm_cs_set0 E ad σ k v k3 k2] at hP hD
  exact kk H1 locs1 ⟨hW.1, hP, hD, hW.2.2.2⟩ hS1
theorem mm_putw (hx : p.tables.exec = Jvm.exec) (hb : c.code = cc) (hts : ∀ w ∈ lw_all, w.before args s = true) (hown : s.vm.findClass RX8 = some m.cls) (hW : mm_W D cl E A ad σ s H) (hS : va_S A H0 H locs)
    (hl : Cond.fieldLink RX8 index RX8 (TX8 24).2.1 (TX8 24).2.2.1 ∈ lw_all) {v : Int64} (hd : decode cc pc = .ok (.putfield index, 3))
    (kk : ∀ (H1 : Heap) (locs1 : List Loc), mm_W D cl E A ad (gg_w σ v) s H1 → va_S A H0 H1 locs1 → W p l e R s m args below meth c H1 locs1 cells slots Q (F0 m (pc + 3) ls rest)) : W p l e R s m args below meth c H locs cells slots Q (F0 m pc ls (.long v :: .ref (ad 0) :: rest)) := by
  refine va_put (D := D) (ci := 8) (v := .long v) (ty := .long) (C := RX8) (T := TX8) (N := 47) hx hb hts in_X8 tyX8 tyX8_ok nmX8 hown hW.2.2.2 hW.2.1 hW.2.2.1 hS 0 rfl hW.1 24 (by decide) (hts _ hl) (fun _ h9 => h9) rfl (tyX8_ok 24 (by decide)) rfl rfl (by rw [mm_fs_len]; decide) hd (fun H1 locs1 hP hD hS1 => ?_)
  rw [mm_cs_setW E ad σ v] at hP hD
  exact kk H1 locs1 ⟨hW.1, hP, hD, hW.2.2.2⟩ hS1
theorem mm_ald (hx : p.tables.exec = Jvm.exec) (hb : c.code = cc) (hW : mm_W D cl E A ad σ s H) (j : Nat) {i : Int32} (hj : decide (j < 21 ∧ j ≠ 17) = true) (hin : vp_in i (mm_len (j + 1))) (hd : decode cc pc = .ok (.iaload, 1))
    (kk : W p l e R s m args below meth c H locs cells slots Q (F0 m (pc + 1) ls (.int (gg_g σ (j + 1) i.toNatClampNeg) :: rest))) : W p l e R s m args below meth c H locs cells slots Q (F0 m pc ls (.int i :: .ref (ad (j + 1)) :: rest)) := by
  obtain ⟨k1, k2⟩ := of_decide_eq_true hj
  exact va_iald (cA := E.1) (n := mm_len (j + 1)) (f := gg_g σ (j + 1)) hx hb hW.2.2.2 hW.2.1 (j + 1) 0 (by rw [mm_cs_at E ad σ k1]; unfold mm_ar mm_ca; rw [if_neg (by omega)]) rfl hin hd kk
theorem mm_zld (hx : p.tables.exec = Jvm.exec) (hb : c.code = cc) (hW : mm_W D cl E A ad σ s H) {i : Int32} (hin : vp_in i 4) (hd : decode cc pc = .ok (.baload, 1))
    (kk : W p l e R s m args below meth c H locs cells slots Q (F0 m (pc + 1) ls (.int (gg_g σ 18 i.toNatClampNeg) :: rest))) : W p l e R s m args below meth c H locs cells slots Q (F0 m pc ls (.int i :: .ref (ad 18) :: rest)) :=
  va_zald (cA := E.2) (n := 4) (f := gg_g σ 18) hx hb hW.2.2.2 hW.2.1 18 1 (mm_cs_at E ad σ (j := 17) (by decide)) rfl hin hd kk
theorem mm_ast (hx : p.tables.exec = Jvm.exec) (hb : c.code = cc) (hW : mm_W D cl E A ad σ s H) (hS : va_S A H0 H locs) (j : Nat) {i v : Int32} (hj : decide (j < 21 ∧ j ≠ 17) = true) (hin : vp_in i (mm_len (j + 1))) (hd : decode cc pc = .ok (.iastore, 1))
    (kk : ∀ (H1 : Heap) (locs1 : List Loc), mm_W D cl E A ad (gg_s σ (j + 1) i.toNatClampNeg v) s H1 → va_S A H0 H1 locs1 → W p l e R s m args below meth c H1 locs1 cells slots Q (F0 m (pc + 1) ls rest)) : W p l e R s m args below meth c H locs cells slots Q (F0 m pc ls (.int v :: .int i :: .ref (ad (j + 1)) :: rest)) := by
  obtain ⟨k1, k2⟩ := of_decide_eq_true hj
  have hca : mm_ca E (j + 1) = E.1 := by unfold mm_ca; rw [if_neg (by omega)]
  refine va_iast (cA := mm_ca E (j + 1)) (n := mm_len (j + 1)) (f := gg_g σ (j + 1)) hx hb hW.2.2.2 hW.2.1 hW.2.2.1 hS (j + 1) 0 (mm_cs_at E ad σ k1) (by rw [hca]; rfl) hin hd (fun H1 locs1 hP hD hS1 => ?_)
  rw [mm_cs_setA E ad σ j i.toNatClampNeg v _ rfl] at hP hD
  exact kk H1 locs1 ⟨hW.1, hP, hD, hW.2.2.2⟩ hS1
theorem mm_zst (hx : p.tables.exec = Jvm.exec) (hb : c.code = cc) (hW : mm_W D cl E A ad σ s H) (hS : va_S A H0 H locs) {i v : Int32} (hz : v = 0 ∨ v = 1) (hin : vp_in i 4) (hd : decode cc pc = .ok (.bastore, 1))
    (kk : ∀ (H1 : Heap) (locs1 : List Loc), mm_W D cl E A ad (gg_s σ 18 i.toNatClampNeg v) s H1 → va_S A H0 H1 locs1 → W p l e R s m args below meth c H1 locs1 cells slots Q (F0 m (pc + 1) ls rest)) : W p l e R s m args below meth c H locs cells slots Q (F0 m pc ls (.int v :: .int i :: .ref (ad 18) :: rest)) := by
  have hv : vp_nar .boolean v = v := by rcases hz with h | h <;> (rw [h]; rfl)
  refine va_zast (cA := E.2) (n := 4) (f := gg_g σ 18) hx hb hW.2.2.2 hW.2.1 hW.2.2.1 hS 18 1 (mm_cs_at E ad σ (j := 17) (by decide)) rfl hin hd (fun H1 locs1 hP hD hS1 => ?_)
  rw [show (18 : Nat) = 17 + 1 from rfl, show E.2 = mm_ca E (17 + 1) from rfl, show (4 : Nat) = mm_len (17 + 1) from rfl, mm_cs_setA E ad σ 17 i.toNatClampNeg v _ (by rw [hv])] at hP hD
  exact kk H1 locs1 ⟨hW.1, hP, hD, hW.2.2.2⟩ hS1
end MMROWS
section MMCALLS
variable {p : Program} {l : Launch} {e : Env} {R : Room} {s : State} {m : MethodId} {args : Array Value} {below : List Frame} {meth : Method} {c : Code} {H : Heap} {locs : List Loc} {cells slots : Nat} {Q : State → Prop}
variable {cc bytes : ByteArray} {pc nL maxL n index : Nat} {ls : Array Slot} {rest st : List Value} {ret : Option FieldType} {ws : List Cond} {rm : Room} {Ts : List Cond} {own C : String} {y : MethodName} {b : Addr} {As : List Value}
variable {D : va_G} {cl : List vw_C} {E : ClassId × ClassId} {A : Nat → Prop} {ad : Nat → Nat} {σ : gg_S} {H0 : Heap}
theorem mm_VI {Q1 : Int32 → gg_S → Prop} (S : CallFix p m c cc nL s args Ts own)
    (hM : Met l y ws rm (va_Pc (.ref b :: As) (fun U => mm_W D cl E A ad σ U U.heap)) (va_Qi Q1 (fun u t => mm_W D cl E A ad u t t.heap) A) 0 0 A) (cw : CallW R s args own C index y bytes maxL ret ws rm 0 0 n)
    (hW : mm_W D cl E A ad σ s H) (hrecv : ∃ cell : Cell, H[b]? = some cell ∧ cell.vm.isStatics = false ∧ s.vm.findClass C = some cell.cls) (hS : va_S A H0 H locs) (hn : As.length = n) (hsize : ls.size = nL) (hst : st = As.reverse ++ .ref b :: rest)
    (hw8 : (rest.map fun v => v.category).sum ≤ 8) (hd : decode cc pc = .ok (.invokevirtual index, 3)) (kk : ∀ (r : Int32) (u1 : gg_S) (H1 : Heap) (locs1 : List Loc), Q1 r u1 → mm_W D cl E A ad u1 s H1 → va_S A H0 H1 locs1 → W p l e R s m args below meth c H1 locs1 0 0 Q (F0 m (pc + 3) ls (.int r :: rest))) :
    W p l e R s m args below meth c H locs 0 0 Q (F0 m pc ls st) :=
  gg_VI (W0 := fun s H => mm_W D cl E A ad σ s H) (mm_mv0 D cl E A ad σ) (mm_mv D cl E A ad) S hM cw hW hrecv hS hn hsize hst hw8 hd ⟨Nat.zero_le _, Nat.zero_le _⟩ kk
theorem mm_SI {Q1 : Int32 → gg_S → Prop} (S : CallFix p m c cc nL s args Ts own)
    (hM : Met l y ws rm (va_Pc As (fun U => mm_W D cl E A ad σ U U.heap)) (va_Qi Q1 (fun u t => mm_W D cl E A ad u t t.heap) A) 0 0 A) (cw : CallB R s args own index y bytes maxL ret ws rm 0 0 n ∧ (Cond.static y).before args s = true)
    (hW : mm_W D cl E A ad σ s H) (hS : va_S A H0 H locs) (hn : As.length = n) (hsize : ls.size = nL) (hst : st = As.reverse ++ rest)
    (hw8 : (rest.map fun v => v.category).sum ≤ 8) (hd : decode cc pc = .ok (.invokestatic index, 3)) (kk : ∀ (r : Int32) (u1 : gg_S) (H1 : Heap) (locs1 : List Loc), Q1 r u1 → mm_W D cl E A ad u1 s H1 → va_S A H0 H1 locs1 → W p l e R s m args below meth c H1 locs1 0 0 Q (F0 m (pc + 3) ls (.int r :: rest))) :
    W p l e R s m args below meth c H locs 0 0 Q (F0 m pc ls st) :=
  gg_SI (W0 := fun s H => mm_W D cl E A ad σ s H) (mm_mv0 D cl E A ad σ) (mm_mv D cl E A ad) S hM cw hW hS hn hsize hst hw8 hd ⟨Nat.zero_le _, Nat.zero_le _⟩ kk
theorem mm_VJ {Q1 : Int64 → gg_S → Prop} (S : CallFix p m c cc nL s args Ts own)
    (hM : Met l y ws rm (va_Pc (.ref b :: As) (fun U => mm_W D cl E A ad σ U U.heap)) (va_Ql Q1 (fun u t => mm_W D cl E A ad u t t.heap) A) 0 0 A) (cw : CallW R s args own C index y bytes maxL ret ws rm 0 0 n)
    (hW : mm_W D cl E A ad σ s H) (hrecv : ∃ cell : Cell, H[b]? = some cell ∧ cell.vm.isStatics = false ∧ s.vm.findClass C = some cell.cls) (hS : va_S A H0 H locs) (hn : As.length = n) (hsize : ls.size = nL) (hst : st = As.reverse ++ .ref b :: rest)
    (hw8 : (rest.map fun v => v.category).sum ≤ 8) (hd : decode cc pc = .ok (.invokevirtual index, 3)) (kk : ∀ (r : Int64) (u1 : gg_S) (H1 : Heap) (locs1 : List Loc), Q1 r u1 → mm_W D cl E A ad u1 s H1 → va_S A H0 H1 locs1 → W p l e R s m args below meth c H1 locs1 0 0 Q (F0 m (pc + 3) ls (.long r :: rest))) :
    W p l e R s m args below meth c H locs 0 0 Q (F0 m pc ls st) :=
  gg_VJ (W0 := fun s H => mm_W D cl E A ad σ s H) (mm_mv0 D cl E A ad σ) (mm_mv D cl E A ad) S hM cw hW hrecv hS hn hsize hst hw8 hd ⟨Nat.zero_le _, Nat.zero_le _⟩ kk
theorem mm_SJ {Q1 : Int64 → gg_S → Prop} (S : CallFix p m c cc nL s args Ts own)
    (hM : Met l y ws rm (va_Pc As (fun U => mm_W D cl E A ad σ U U.heap)) (va_Ql Q1 (fun u t => mm_W D cl E A ad u t t.heap) A) 0 0 A) (cw : CallB R s args own index y bytes maxL ret ws rm 0 0 n ∧ (Cond.static y).before args s = true)
    (hW : mm_W D cl E A ad σ s H) (hS : va_S A H0 H locs) (hn : As.length = n) (hsize : ls.size = nL) (hst : st = As.reverse ++ rest)
    (hw8 : (rest.map fun v => v.category).sum ≤ 8) (hd : decode cc pc = .ok (.invokestatic index, 3)) (kk : ∀ (r : Int64) (u1 : gg_S) (H1 : Heap) (locs1 : List Loc), Q1 r u1 → mm_W D cl E A ad u1 s H1 → va_S A H0 H1 locs1 → W p l e R s m args below meth c H1 locs1 0 0 Q (F0 m (pc + 3) ls (.long r :: rest))) :
    W p l e R s m args below meth c H locs 0 0 Q (F0 m pc ls st) :=
  gg_SJ (W0 := fun s H => mm_W D cl E A ad σ s H) (mm_mv0 D cl E A ad σ) (mm_mv D cl E A ad) S hM cw hW hS hn hsize hst hw8 hd ⟨Nat.zero_le _, Nat.zero_le _⟩ kk
theorem mm_VV {Q1 : gg_S → Prop} (S : CallFix p m c cc nL s args Ts own)
    (hM : Met l y ws rm (va_Pc (.ref b :: As) (fun U => mm_W D cl E A ad σ U U.heap)) (va_Qv Q1 (fun u t => mm_W D cl E A ad u t t.heap) A) 0 0 A) (cw : CallW R s args own C index y bytes maxL ret ws rm 0 0 n)
    (hW : mm_W D cl E A ad σ s H) (hrecv : ∃ cell : Cell, H[b]? = some cell ∧ cell.vm.isStatics = false ∧ s.vm.findClass C = some cell.cls) (hS : va_S A H0 H locs) (hn : As.length = n) (hsize : ls.size = nL) (hst : st = As.reverse ++ .ref b :: rest)
    (hw8 : (rest.map fun v => v.category).sum ≤ 8) (hd : decode cc pc = .ok (.invokevirtual index, 3)) (kk : ∀ (u1 : gg_S) (H1 : Heap) (locs1 : List Loc), Q1 u1 → mm_W D cl E A ad u1 s H1 → va_S A H0 H1 locs1 → W p l e R s m args below meth c H1 locs1 0 0 Q (F0 m (pc + 3) ls rest)) :
    W p l e R s m args below meth c H locs 0 0 Q (F0 m pc ls st) :=
  gg_VV (W0 := fun s H => mm_W D cl E A ad σ s H) (mm_mv0 D cl E A ad σ) (mm_mv D cl E A ad) S hM cw hW hrecv hS hn hsize hst hw8 hd ⟨Nat.zero_le _, Nat.zero_le _⟩ kk
end MMCALLS
