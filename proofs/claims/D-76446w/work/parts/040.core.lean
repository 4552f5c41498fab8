/-! CORE: a state of ints by place, and generic rows: a method's entry, its calls, its ends, over a world 'W1 u s H' -/
/-- ints by cell and place, and one long beside -/
abbrev gg_S : Type := (Nat → Nat → Int32) × Int64
def gg_g (σ : gg_S) (i k : Nat) : Int32 := σ.1 i k
def gg_s (σ : gg_S) (i k : Nat) (v : Int32) : gg_S := (fun a => if a = i then (fun b => if b = k then v else σ.1 i b) else σ.1 a, σ.2)
def gg_w (σ : gg_S) (v : Int64) : gg_S := (σ.1, v)
theorem gg_gs (σ : gg_S) (i k : Nat) (v : Int32) (j q : Nat) : gg_g (gg_s σ i k v) j q = if j = i ∧ q = k then v else gg_g σ j q := by
  unfold gg_g gg_s
  by_cases h : j = i
  · subst h
    by_cases h2 : q = k
    · simp [h2]
    · simp [h2]
  · simp [h]
theorem gg_gw (σ : gg_S) (v : Int64) (j q : Nat) : gg_g (gg_w σ v) j q = gg_g σ j q := rfl
theorem gg_ws (σ : gg_S) (i k : Nat) (v : Int32) : (gg_s σ i k v).2 = σ.2 := rfl
theorem gg_ww (σ : gg_S) (v : Int64) : (gg_w σ v).2 = v := rfl
theorem gg_row (σ : gg_S) (i k : Nat) (v : Int32) {j : Nat} (h : j ≠ i) : gg_g (gg_s σ i k v) j = gg_g σ j := by
  funext q
  rw [gg_gs, if_neg (fun z => h z.1)]
theorem gg_rowS (σ : gg_S) (i k : Nat) (v : Int32) : gg_g (gg_s σ i k v) i = upd (gg_g σ i) k v := by
  funext q
  rw [gg_gs]
  unfold upd
  by_cases h : q = k
  · simp [h]
  · simp [h]
/-- what holds all through a method's body -/
abbrev gg_C (p : Program) (s : State) (m : MethodId) (args : Array Value) (meth : Method) (c : Code) (own : String) (cc : ByteArray) (nL : Nat) (ret : Option FieldType) : Prop :=
  p.tables.exec = Jvm.exec ∧ c.code = cc ∧ c.maxLocals = nL ∧ s.vm.findClass own = some m.cls ∧ (∀ w ∈ lw_all, w.before args s = true) ∧ meth.sig.returnType = ret ∧ meth.locks = false
theorem gg_entry {l : Launch} {y : MethodName} {cc : ByteArray} {maxL : Nat} {ret : Option FieldType} {rm : Room} {as : List Value} {W0 : State → Heap → Prop} {Qc : Array Value → State → Outcome → State → Prop} {mc ms : Nat} {A : Addr → Prop}
    (hplain : plainName y.cls = true) (hlen : (lg_sl as).length ≤ maxL)
    (body : ∀ (p : Program) (e : Env) (s : State) (m : MethodId) (args : Array Value) (below : List Frame) (meth : Method) (c : Code), gg_C p s m args meth c y.cls cc maxL ret → W0 s s.heap → ∀ ls : Array Slot, lv_has ls maxL (lv_args 0 as) →
      W p l e rm s m args below meth c s.heap [] 0 0 (MQ below Qc args s mc ms A) (F0 m 0 ls [])) :
    Met l y (ws_ y cc maxL ret) rm (va_Pc as (fun U => W0 U U.heap)) Qc mc ms A := by
  refine Met.ofW (cc := cc) (maxL := maxL) (ret := ret) hplain rfl ?_
  intro p e s m args below meth c s₁ B hml hv
  obtain ⟨rfl, hW0⟩ := hv
  have hts := atoms_spec (ws := ws_ y cc maxL ret) B.pre
  have hl := lv_entry as (n := maxL) hlen
  rw [lg_entry_eq]
  exact body p e s m _ below meth c ⟨B.exec, B.bytes, hml, findClass_of_methodNamed B.named, fun w h => hts w (List.mem_cons_of_mem _ h), B.returns, B.notSynchronized⟩ hW0 _ hl
section GGROWS
variable {p : Program} {l : Launch} {e : Env} {R : Room} {s : State} {m : MethodId} {args : Array Value} {below : List Frame} {meth : Method} {c : Code} {H : Heap} {locs : List Loc} {cells slots : Nat} {Q : State → Prop}
variable {cc bytes : ByteArray} {pc nL maxL mc ms n index : Nat} {ls : Array Slot} {rest st : List Value} {ret : Option FieldType} {ws : List Cond} {rm : Room} {Ts : List Cond} {own C : String} {y : MethodName} {b : Addr} {As : List Value}
/-- a world's law: it holds on any state whose tables are like -/
def gg_Mv {T : Type} (W1 : T → State → Heap → Prop) : Prop := ∀ (u : T) (s U : State) (H : Heap), s.vm.Alike U.vm → W1 u s H → W1 u U H
abbrev gg_Mv0 (W0 : State → Heap → Prop) : Prop := ∀ (s U : State) (H : Heap), s.WarmedH U.vm → W0 s H → W0 U H
/-- the calls' precondition, receiver known -/
theorem gg_preV {W0 : State → Heap → Prop} (hmv : gg_Mv0 W0) (hW : W0 s H) (hrecv : ∃ cell : Cell, H[b]? = some cell ∧ cell.vm.isStatics = false ∧ s.vm.findClass C = some cell.cls) :
    PreV s H C b (va_Pc (.ref b :: As) (fun U => W0 U U.heap)) As :=
  ⟨fun a U g mk q => ⟨q.1, hmv U (U.calling g mk a) _ (State.WarmedH.refl U) q.2⟩, hrecv, fun U hU hWm => ⟨rfl, by show W0 U U.heap; rw [hU]; exact hmv s U H hWm hW⟩⟩
theorem gg_preS {W0 : State → Heap → Prop} (hmv : gg_Mv0 W0) (hW : W0 s H) : PreS s H (va_Pc As (fun U => W0 U U.heap)) As :=
  ⟨fun a U g mk q => ⟨q.1, hmv U (U.calling g mk a) _ (State.WarmedH.refl U) q.2⟩, fun U hU hWm => ⟨rfl, by show W0 U U.heap; rw [hU]; exact hmv s U H hWm hW⟩⟩
theorem gg_VI {T : Type} {W0 : State → Heap → Prop} {W1 : T → State → Heap → Prop} (hmv0 : gg_Mv0 W0) (hmv : gg_Mv W1) {A : Addr → Prop} {H0 : Heap} {Q1 : Int32 → T → Prop} (S : CallFix p m c cc nL s args Ts own)
    (hM : Met l y ws rm (va_Pc (.ref b :: As) (fun U => W0 U U.heap)) (va_Qi Q1 (fun u t => W1 u t t.heap) A) mc ms A) (cw : CallW R s args own C index y bytes maxL ret ws rm mc ms n)
    (hW : W0 s H) (hrecv : ∃ cell : Cell, H[b]? = some cell ∧ cell.vm.isStatics = false ∧ s.vm.findClass C = some cell.cls) (hS : va_S A H0 H locs) (hn : As.length = n) (hsize : ls.size = nL) (hst : st = As.reverse ++ .ref b :: rest)
    (hw8 : (rest.map fun v => v.category).sum ≤ 8) (hd : decode cc pc = .ok (.invokevirtual index, 3)) (hf : cells + mc ≤ R.cells ∧ slots + ms ≤ R.slots)
    (kk : ∀ (r : Int32) (u1 : T) (H1 : Heap) (locs1 : List Loc), Q1 r u1 → W1 u1 s H1 → va_S A H0 H1 locs1 → W p l e R s m args below meth c H1 locs1 (cells + mc) (slots + ms) Q (F0 m (pc + 3) ls (.int r :: rest))) :
    W p l e R s m args below meth c H locs cells slots Q (F0 m pc ls st) := by
  refine va_calli (va_runV (As := As) (rest := rest) S hM cw (gg_preV hmv0 hW hrecv) rfl hn hsize hst (lv_room hw8) hd hf) hS (fun q _ h => h) (fun q h => h) (fun r u1 t H1 locs1 ht hvm hq hB hz hk hS1 => kk r u1 H1 locs1 hq ?_ hS1)
  rw [ht] at hB
  exact hmv u1 t s H1 hvm.symm hB
theorem gg_VJ {T : Type} {W0 : State → Heap → Prop} {W1 : T → State → Heap → Prop} (hmv0 : gg_Mv0 W0) (hmv : gg_Mv W1) {A : Addr → Prop} {H0 : Heap} {Q1 : Int64 → T → Prop} (S : CallFix p m c cc nL s args Ts own)
    (hM : Met l y ws rm (va_Pc (.ref b :: As) (fun U => W0 U U.heap)) (va_Ql Q1 (fun u t => W1 u t t.heap) A) mc ms A) (cw : CallW R s args own C index y bytes maxL ret ws rm mc ms n)
    (hW : W0 s H) (hrecv : ∃ cell : Cell, H[b]? = some cell ∧ cell.vm.isStatics = false ∧ s.vm.findClass C = some cell.cls) (hS : va_S A H0 H locs) (hn : As.length = n) (hsize : ls.size = nL) (hst : st = As.reverse ++ .ref b :: rest)
    (hw8 : (rest.map fun v => v.category).sum ≤ 8) (hd : decode cc pc = .ok (.invokevirtual index, 3)) (hf : cells + mc ≤ R.cells ∧ slots + ms ≤ R.slots)
    (kk : ∀ (r : Int64) (u1 : T) (H1 : Heap) (locs1 : List Loc), Q1 r u1 → W1 u1 s H1 → va_S A H0 H1 locs1 → W p l e R s m args below meth c H1 locs1 (cells + mc) (slots + ms) Q (F0 m (pc + 3) ls (.long r :: rest))) :
    W p l e R s m args below meth c H locs cells slots Q (F0 m pc ls st) := by
  refine va_calll (va_runV (As := As) (rest := rest) S hM cw (gg_preV hmv0 hW hrecv) rfl hn hsize hst (lv_room hw8) hd hf) hS (fun q _ h => h) (fun q h => h) (fun r u1 t H1 locs1 ht hvm hq hB hz hk hS1 => kk r u1 H1 locs1 hq ?_ hS1)
  rw [ht] at hB
  exact hmv u1 t s H1 hvm.symm hB
theorem gg_VV {T : Type} {W0 : State → Heap → Prop} {W1 : T → State → Heap → Prop} (hmv0 : gg_Mv0 W0) (hmv : gg_Mv W1) {A : Addr → Prop} {H0 : Heap} {Q1 : T → Prop} (S : CallFix p m c cc nL s args Ts own)
    (hM : Met l y ws rm (va_Pc (.ref b :: As) (fun U => W0 U U.heap)) (va_Qv Q1 (fun u t => W1 u t t.heap) A) mc ms A) (cw : CallW R s args own C index y bytes maxL ret ws rm mc ms n)
    (hW : W0 s H) (hrecv : ∃ cell : Cell, H[b]? = some cell ∧ cell.vm.isStatics = false ∧ s.vm.findClass C = some cell.cls) (hS : va_S A H0 H locs) (hn : As.length = n) (hsize : ls.size = nL) (hst : st = As.reverse ++ .ref b :: rest)
    (hw8 : (rest.map fun v => v.category).sum ≤ 8) (hd : decode cc pc = .ok (.invokevirtual index, 3)) (hf : cells + mc ≤ R.cells ∧ slots + ms ≤ R.slots)
    (kk : ∀ (u1 : T) (H1 : Heap) (locs1 : List Loc), Q1 u1 → W1 u1 s H1 → va_S A H0 H1 locs1 → W p l e R s m args below meth c H1 locs1 (cells + mc) (slots + ms) Q (F0 m (pc + 3) ls rest)) :
    W p l e R s m args below meth c H locs cells slots Q (F0 m pc ls st) := by
  refine va_callv (va_runV (As := As) (rest := rest) S hM cw (gg_preV hmv0 hW hrecv) rfl hn hsize hst (lv_room hw8) hd hf) hS (fun q _ h => h) (fun q h => h) (fun u1 t H1 locs1 ht hvm hq hB hz hk hS1 => kk u1 H1 locs1 hq ?_ hS1)
  rw [ht] at hB
  exact hmv u1 t s H1 hvm.symm hB
theorem gg_SI {T : Type} {W0 : State → Heap → Prop} {W1 : T → State → Heap → Prop} (hmv0 : gg_Mv0 W0) (hmv : gg_Mv W1) {A : Addr → Prop} {H0 : Heap} {Q1 : Int32 → T → Prop} (S : CallFix p m c cc nL s args Ts own)
    (hM : Met l y ws rm (va_Pc As (fun U => W0 U U.heap)) (va_Qi Q1 (fun u t => W1 u t t.heap) A) mc ms A) (cw : CallB R s args own index y bytes maxL ret ws rm mc ms n ∧ (Cond.static y).before args s = true)
    (hW : W0 s H) (hS : va_S A H0 H locs) (hn : As.length = n) (hsize : ls.size = nL) (hst : st = As.reverse ++ rest)
    (hw8 : (rest.map fun v => v.category).sum ≤ 8) (hd : decode cc pc = .ok (.invokestatic index, 3)) (hf : cells + mc ≤ R.cells ∧ slots + ms ≤ R.slots)
    (kk : ∀ (r : Int32) (u1 : T) (H1 : Heap) (locs1 : List Loc), Q1 r u1 → W1 u1 s H1 → va_S A H0 H1 locs1 → W p l e R s m args below meth c H1 locs1 (cells + mc) (slots + ms) Q (F0 m (pc + 3) ls (.int r :: rest))) :
    W p l e R s m args below meth c H locs cells slots Q (F0 m pc ls st) := by
  refine va_calli (va_runS (As := As) (rest := rest) S hM cw (gg_preS hmv0 hW) rfl hn hsize hst (lv_room hw8) hd hf) hS (fun q _ h => h) (fun q h => h) (fun r u1 t H1 locs1 ht hvm hq hB hz hk hS1 => kk r u1 H1 locs1 hq ?_ hS1)
  rw [ht] at hB
  exact hmv u1 t s H1 hvm.symm hB
theorem gg_SJ {T : Type} {W0 : State → Heap → Prop} {W1 : T → State → Heap → Prop} (hmv0 : gg_Mv0 W0) (hmv : gg_Mv W1) {A : Addr → Prop} {H0 : Heap} {Q1 : Int64 → T → Prop} (S : CallFix p m c cc nL s args Ts own)
    (hM : Met l y ws rm (va_Pc As (fun U => W0 U U.heap)) (va_Ql Q1 (fun u t => W1 u t t.heap) A) mc ms A) (cw : CallB R s args own index y bytes maxL ret ws rm mc ms n ∧ (Cond.static y).before args s = true)
    (hW : W0 s H) (hS : va_S A H0 H locs) (hn : As.length = n) (hsize : ls.size = nL) (hst : st = As.reverse ++ rest)
    (hw8 : (rest.map fun v => v.category).sum ≤ 8) (hd : decode cc pc = .ok (.invokestatic index, 3)) (hf : cells + mc ≤ R.cells ∧ slots + ms ≤ R.slots)
    (kk : ∀ (r : Int64) (u1 : T) (H1 : Heap) (locs1 : List Loc), Q1 r u1 → W1 u1 s H1 → va_S A H0 H1 locs1 → W p l e R s m args below meth c H1 locs1 (cells + mc) (slots + ms) Q (F0 m (pc + 3) ls (.long r :: rest))) :
    W p l e R s m args below meth c H locs cells slots Q (F0 m pc ls st) := by
  refine va_calll (va_runS (As := As) (rest := rest) S hM cw (gg_preS hmv0 hW) rfl hn hsize hst (lv_room hw8) hd hf) hS (fun q _ h => h) (fun q h => h) (fun r u1 t H1 locs1 ht hvm hq hB hz hk hS1 => kk r u1 H1 locs1 hq ?_ hS1)
  rw [ht] at hB
  exact hmv u1 t s H1 hvm.symm hB
/-- a method's ends -/
theorem gg_iret {T : Type} {W1 : T → State → Heap → Prop} (hmv : gg_Mv W1) {u : T} {A : Addr → Prop} {Q1 : Int32 → T → Prop} {v : Int32} (C0 : gg_C p s m args meth c own cc nL (some .int)) (hW : W1 u s H) (hS : va_S A s.heap H locs) (hq : Q1 v u) (hd : decode cc pc = .ok (.ireturn, 1)) :
    W p l e R s m args below meth c H locs cells slots (MQ below (va_Qi Q1 (fun u t => W1 u t t.heap) A) args s cells slots A) (F0 m pc ls [.int v]) :=
  W.iret (hlocks := C0.2.2.2.2.2.2) C0.1 C0.2.1 C0.2.2.2.2.2.1 (fun t ht hWm => ⟨⟨v, u, rfl, hq, by show W1 u t t.heap; rw [ht]; exact hmv u s t H hWm.alike hW⟩, hS.F ht⟩) hS.2.2 hd
theorem gg_zret {T : Type} {W1 : T → State → Heap → Prop} (hmv : gg_Mv W1) {u : T} {A : Addr → Prop} {Q1 : Int32 → T → Prop} {v : Int32} (C0 : gg_C p s m args meth c own cc nL (some .boolean)) (hW : W1 u s H) (hS : va_S A s.heap H locs) (hz : v = 0 ∨ v = 1) (hq : Q1 v u) (hd : decode cc pc = .ok (.ireturn, 1)) :
    W p l e R s m args below meth c H locs cells slots (MQ below (va_Qi (fun r u => (r = 0 ∨ r = 1) ∧ Q1 r u) (fun u t => W1 u t t.heap) A) args s cells slots A) (F0 m pc ls [.int v]) :=
  W.zret (hlocks := C0.2.2.2.2.2.2) C0.1 C0.2.1 C0.2.2.2.2.2.1 (by rcases hz with h | h <;> (rw [h]; rfl)) (fun t ht hWm => ⟨⟨v, u, rfl, ⟨hz, hq⟩, by show W1 u t t.heap; rw [ht]; exact hmv u s t H hWm.alike hW⟩, hS.F ht⟩) hS.2.2 hd
theorem gg_lret {T : Type} {W1 : T → State → Heap → Prop} (hmv : gg_Mv W1) {u : T} {A : Addr → Prop} {Q1 : Int64 → T → Prop} {v : Int64} (C0 : gg_C p s m args meth c own cc nL (some .long)) (hW : W1 u s H) (hS : va_S A s.heap H locs) (hq : Q1 v u) (hd : decode cc pc = .ok (.lreturn, 1)) :
    W p l e R s m args below meth c H locs cells slots (MQ below (va_Ql Q1 (fun u t => W1 u t t.heap) A) args s cells slots A) (F0 m pc ls [.long v]) :=
  W.lret (hlocks := C0.2.2.2.2.2.2) C0.1 C0.2.1 C0.2.2.2.2.2.1 (fun t ht hWm => ⟨⟨v, u, rfl, hq, by show W1 u t t.heap; rw [ht]; exact hmv u s t H hWm.alike hW⟩, hS.F ht⟩) hS.2.2 hd
theorem gg_vret {T : Type} {W1 : T → State → Heap → Prop} (hmv : gg_Mv W1) {u : T} {A : Addr → Prop} {Q1 : T → Prop} (C0 : gg_C p s m args meth c own cc nL none) (hW : W1 u s H) (hS : va_S A s.heap H locs) (hq : Q1 u) (hd : decode cc pc = .ok (.return_, 1)) :
    W p l e R s m args below meth c H locs cells slots (MQ below (va_Qv Q1 (fun u t => W1 u t t.heap) A) args s cells slots A) (F0 m pc ls []) :=
  W.vret (hlocks := C0.2.2.2.2.2.2) C0.1 C0.2.1 C0.2.2.2.2.2.1 (fun t ht hWm => ⟨⟨u, rfl, hq, by show W1 u t t.heap; rw [ht]; exact hmv u s t H hWm.alike hW⟩, hS.F ht⟩) hS.2.2 hd
end GGROWS
