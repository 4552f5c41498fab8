/-! CORE: methods with handlers that nothing reaches -/
theorem gg_ofWH {l : Launch} {y : MethodName} {ws ws' : List Cond} {rm : Room} {Pc : Array Value → State → Prop} {Qc : Array Value → State → Outcome → State → Prop} {mc ms : Nat} {free : Addr → Prop} {cc : ByteArray} {maxL : Nat} {ret : Option FieldType} {hh : List (Nat × Nat × Nat × Nat)}
    (hy : plainName y.cls = true) (hw : ws = Cond.codeWith y cc maxL ret hh :: ws')
    (body : ∀ p e s m args below meth c s₁, BodyLoose p l y (headSpec ws rm) cc maxL ret e s m args below meth c s₁ → c.maxLocals = maxL → Pc args s →
      W p l e (headSpec ws rm).room s m args below meth c s.heap [] 0 0 (MQ below Qc args s mc ms free) (entryFrame m args maxL)) : Met l y ws rm Pc Qc mc ms free := by
  refine MetFree.of_bodyS (code := cc) (maxLocals := maxL) (ret := ret) hy ?_ ?_
  · intro args s m h hn
    obtain ⟨m9, meth, c, hn9, h1, h2, h3, h4, -, h5, h6, -⟩ := Cond.codeWith_spec (atoms_spec (ws := ws) h _ (by rw [hw]; exact List.mem_cons_self))
    cases hn.symm.trans hn9
    exact ⟨meth, c, h1, h2, h3, h4, h5, h6⟩
  · intro p e s m args below meth c s₁ B hml hP _
    have hh0 : s₁.heap = s.heap := by rw [B.state]; rfl
    obtain ⟨t, a1, o, b1, b2, b3⟩ := body p e s m args below meth c s₁ B hml hP s₁ hh0 (Stand.of_body B)
    exact ⟨t, o, a1, b1, b2, ⟨b3.1, b3.2⟩⟩
theorem gg_entryW {l : Launch} {y : MethodName} {cc : ByteArray} {maxL : Nat} {ret : Option FieldType} {hh : List (Nat × Nat × Nat × Nat)} {rm : Room} {as : List Value} {W0 : State → Heap → Prop} {Qc : Array Value → State → Outcome → State → Prop} {mc ms : Nat} {A : Addr → Prop}
    (hplain : plainName y.cls = true) (hlen : (lg_sl as).length ≤ maxL)
    (body : ∀ (p : Program) (e : Env) (s : State) (m : MethodId) (args : Array Value) (below : List Frame) (meth : Method) (c : Code), gg_C p s m args meth c y.cls cc maxL ret → W0 s s.heap → ∀ ls : Array Slot, lv_has ls maxL (lv_args 0 as) →
      W p l e rm s m args below meth c s.heap [] 0 0 (MQ below Qc args s mc ms A) (F0 m 0 ls [])) :
    Met l y (wsW_ y cc maxL ret hh) rm (va_Pc as (fun U => W0 U U.heap)) Qc mc ms A := by
  refine gg_ofWH (cc := cc) (maxL := maxL) (ret := ret) (hh := hh) hplain rfl ?_
  intro p e s m args below meth c s₁ B hml hv
  obtain ⟨rfl, hW0⟩ := hv
  have hts := atoms_spec (ws := wsW_ y cc maxL ret hh) B.pre
  have hl := lv_entry as (n := maxL) hlen
  rw [lg_entry_eq]
  exact body p e s m _ below meth c ⟨B.exec, B.bytes, hml, findClass_of_methodNamed B.named, fun w h => hts w (List.mem_cons_of_mem _ h), B.returns, B.notSynchronized⟩ hW0 _ hl
section GGROWSW
variable {p : Program} {l : Launch} {e : Env} {R : Room} {s : State} {m : MethodId} {args : Array Value} {below : List Frame} {meth : Method} {c : Code} {H : Heap} {locs : List Loc} {cells slots : Nat} {Q : State → Prop}
variable {cc bytes : ByteArray} {pc nL maxL mc ms n index : Nat} {ls : Array Slot} {rest st : List Value} {ret : Option FieldType} {hh : List (Nat × Nat × Nat × Nat)} {ws : List Cond} {rm : Room} {Ts : List Cond} {own C : String} {y : MethodName} {b : Addr} {As : List Value}
theorem gg_WI {T : Type} {W0 : State → Heap → Prop} {W1 : T → State → Heap → Prop} (hmv0 : gg_Mv0 W0) (hmv : gg_Mv W1) {A : Addr → Prop} {H0 : Heap} {Q1 : Int32 → T → Prop} (S : CallFix p m c cc nL s args Ts own)
    (hM : Met l y ws rm (va_Pc (.ref b :: As) (fun U => W0 U U.heap)) (va_Qi Q1 (fun u t => W1 u t t.heap) A) mc ms A) (cw : vx_CVW R s args own C index y bytes maxL ret hh ws rm mc ms n)
    (hW : W0 s H) (hrecv : ∃ cell : Cell, H[b]? = some cell ∧ cell.vm.isStatics = false ∧ s.vm.findClass C = some cell.cls) (hS : va_S A H0 H locs) (hn : As.length = n) (hsize : ls.size = nL) (hst : st = As.reverse ++ .ref b :: rest)
    (hw8 : (rest.map fun v => v.category).sum ≤ 8) (hd : decode cc pc = .ok (.invokevirtual index, 3)) (hf : cells + mc ≤ R.cells ∧ slots + ms ≤ R.slots)
    (kk : ∀ (r : Int32) (u1 : T) (H1 : Heap) (locs1 : List Loc), Q1 r u1 → W1 u1 s H1 → va_S A H0 H1 locs1 → W p l e R s m args below meth c H1 locs1 (cells + mc) (slots + ms) Q (F0 m (pc + 3) ls (.int r :: rest))) :
    W p l e R s m args below meth c H locs cells slots Q (F0 m pc ls st) := by
  refine va_calli (vx_runVW (As := As) (rest := rest) S hM cw (gg_preV hmv0 hW hrecv) rfl hn hsize hst (lv_room hw8) hd hf) hS (fun q _ h => h) (fun q h => h) (fun r u1 t H1 locs1 ht hvm hq hB hz hk hS1 => kk r u1 H1 locs1 hq ?_ hS1)
  rw [ht] at hB
  exact hmv u1 t s H1 hvm.symm hB
theorem gg_WJ {T : Type} {W0 : State → Heap → Prop} {W1 : T → State → Heap → Prop} (hmv0 : gg_Mv0 W0) (hmv : gg_Mv W1) {A : Addr → Prop} {H0 : Heap} {Q1 : Int64 → T → Prop} (S : CallFix p m c cc nL s args Ts own)
    (hM : Met l y ws rm (va_Pc (.ref b :: As) (fun U => W0 U U.heap)) (va_Ql Q1 (fun u t => W1 u t t.heap) A) mc ms A) (cw : vx_CVW R s args own C index y bytes maxL ret hh ws rm mc ms n)
    (hW : W0 s H) (hrecv : ∃ cell : Cell, H[b]? = some cell ∧ cell.vm.isStatics = false ∧ s.vm.findClass C = some cell.cls) (hS : va_S A H0 H locs) (hn : As.length = n) (hsize : ls.size = nL) (hst : st = As.reverse ++ .ref b :: rest)
    (hw8 : (rest.map fun v => v.category).sum ≤ 8) (hd : decode cc pc = .ok (.invokevirtual index, 3)) (hf : cells + mc ≤ R.cells ∧ slots + ms ≤ R.slots)
    (kk : ∀ (r : Int64) (u1 : T) (H1 : Heap) (locs1 : List Loc), Q1 r u1 → W1 u1 s H1 → va_S A H0 H1 locs1 → W p l e R s m args below meth c H1 locs1 (cells + mc) (slots + ms) Q (F0 m (pc + 3) ls (.long r :: rest))) :
    W p l e R s m args below meth c H locs cells slots Q (F0 m pc ls st) := by
  refine va_calll (vx_runVW (As := As) (rest := rest) S hM cw (gg_preV hmv0 hW hrecv) rfl hn hsize hst (lv_room hw8) hd hf) hS (fun q _ h => h) (fun q h => h) (fun r u1 t H1 locs1 ht hvm hq hB hz hk hS1 => kk r u1 H1 locs1 hq ?_ hS1)
  rw [ht] at hB
  exact hmv u1 t s H1 hvm.symm hB
end GGROWSW
/-! switches: none of the cases -/
theorem gg_swout {x : Int32} {lo hi : Int} (_ : -2 ^ 31 ≤ lo) (_ : hi < 2 ^ 31) (h : ∀ v : Int, lo ≤ v → v ≤ hi → ¬ x = Int32.ofInt v) : x.toInt < lo ∨ hi < x.toInt := by
  by_cases a : x.toInt < lo
  · exact Or.inl a
  · by_cases b : hi < x.toInt
    · exact Or.inr b
    · exact absurd (Int32.ofInt_toInt x).symm (h x.toInt (by omega) (by omega))
theorem gg_lkout (ps : List (Int × Int)) (df : Int) (x : Int32) (h : ∀ q ∈ ps, ¬ x = Int32.ofInt q.1) : Op.lookupswitch.offset ps df x.toInt = df := by
  induction ps with
  | nil => rfl
  | cons q ps ih =>
    have h1 : ¬ q.1 = x.toInt := fun e => h q List.mem_cons_self (by rw [e, Int32.ofInt_toInt])
    unfold Op.lookupswitch.offset
    rw [if_neg (by first | exact h1 | simpa using h1)]
    exact ih (fun q hq => h q (List.mem_cons_of_mem _ hq))
/-! CORE: calls of inherited and overriding methods, and of a superclass's -/
theorem lw_U {own : String} {idx : Nat} {C owner : String} {x y : MethodName} {b : ByteArray} {L : Nat} {r : Option FieldType} (h1 : Cond.methodLink own idx x ∈ lw_all) (h2 : Cond.sameMethod x.cls owner x.name x.desc ∈ lw_all) (h3 : Cond.selects C x y ∈ lw_all) (h4 : Cond.instanceMethod y ∈ lw_all) (h5 : Cond.initialized y.cls ∈ lw_all) (h6 : Cond.code y b L r ∈ lw_all) : GoodIn lw_all (va_wsU own idx C owner x y (ws_ y b L r)) := by
  refine lw_app ?_ (lw_meth h6)
  intro w hw
  simp only [List.mem_cons, List.not_mem_nil, or_false] at hw
  rcases hw with e | e | e | e | e
  · rw [e]; exact h1
  · rw [e]; exact h2
  · rw [e]; exact h3
  · rw [e]; exact h4
  · rw [e]; exact h5
theorem lw_O {own : String} {idx : Nat} {C owner : String} {x y : MethodName} {b : ByteArray} {L : Nat} {r : Option FieldType} (h1 : Cond.methodLink own idx x ∈ lw_all) (h2 : Cond.sameMethod x.cls owner x.name x.desc ∈ lw_all) (h7 : Cond.instanceMethod ⟨owner, x.name, x.desc⟩ ∈ lw_all) (h3 : Cond.selects C x y ∈ lw_all) (h4 : Cond.instanceMethod y ∈ lw_all) (h5 : Cond.initialized y.cls ∈ lw_all) (h6 : Cond.code y b L r ∈ lw_all) : GoodIn lw_all (va_wsO own idx C owner x y (ws_ y b L r)) := by
  refine lw_app ?_ (lw_meth h6)
  intro w hw
  simp only [List.mem_cons, List.not_mem_nil, or_false] at hw
  rcases hw with e | e | e | e | e | e
  · rw [e]; exact h1
  · rw [e]; exact h2
  · rw [e]; exact h7
  · rw [e]; exact h3
  · rw [e]; exact h4
  · rw [e]; exact h5
theorem lw_SU {own : String} {idx : Nat} {y : MethodName} {b : ByteArray} {L : Nat} {r : Option FieldType} (h1 : Cond.methodLink own idx y ∈ lw_all) (h2 : Cond.sameMethod y.cls y.cls y.name y.desc ∈ lw_all) (h3 : Cond.superclass own y.cls ∈ lw_all) (h4 : Cond.instanceMethod y ∈ lw_all) (h5 : Cond.initialized y.cls ∈ lw_all) (h6 : Cond.code y b L r ∈ lw_all) : GoodIn lw_all (va_wsSU own idx y (ws_ y b L r)) := by
  refine lw_app ?_ (lw_meth h6)
  intro w hw
  simp only [List.mem_cons, List.not_mem_nil, or_false] at hw
  rcases hw with e | e | e | e | e
  · rw [e]; exact h1
  · rw [e]; exact h2
  · rw [e]; exact h3
  · rw [e]; exact h4
  · rw [e]; exact h5
section GGROWSU
variable {p : Program} {l : Launch} {e : Env} {R : Room} {s : State} {m : MethodId} {args : Array Value} {below : List Frame} {meth : Method} {c : Code} {H : Heap} {locs : List Loc} {cells slots : Nat} {Q : State → Prop}
variable {cc bytes : ByteArray} {pc nL maxL mc ms n index : Nat} {ls : Array Slot} {rest st : List Value} {ret : Option FieldType} {ws : List Cond} {rm : Room} {Ts : List Cond} {own C owner : String} {x y : MethodName} {b : Addr} {As : List Value} {cC : ClassId}
theorem gg_UI {T : Type} {W0 : State → Heap → Prop} {W1 : T → State → Heap → Prop} (hmv0 : gg_Mv0 W0) (hmv : gg_Mv W1) {A : Addr → Prop} {H0 : Heap} {Q1 : Int32 → T → Prop} (S : CallFix p m c cc nL s args Ts own)
    (hM : Met l y ws rm (va_Pc (.ref b :: As) (fun U => W0 U U.heap)) (va_Qi Q1 (fun u t => W1 u t t.heap) A) mc ms A) (cw : va_CU R s args own C owner index x y bytes maxL ret ws rm mc ms n)
    (hW : W0 s H) (hrecv : ∃ cell : Cell, H[b]? = some cell ∧ cell.vm.isStatics = false ∧ s.vm.findClass C = some cell.cls) (hS : va_S A H0 H locs) (hn : As.length = n) (hsize : ls.size = nL) (hst : st = As.reverse ++ .ref b :: rest)
    (hw8 : (rest.map fun v => v.category).sum ≤ 8) (hd : decode cc pc = .ok (.invokevirtual index, 3)) (hf : cells + mc ≤ R.cells ∧ slots + ms ≤ R.slots)
    (kk : ∀ (r : Int32) (u1 : T) (H1 : Heap) (locs1 : List Loc), Q1 r u1 → W1 u1 s H1 → va_S A H0 H1 locs1 → W p l e R s m args below meth c H1 locs1 (cells + mc) (slots + ms) Q (F0 m (pc + 3) ls (.int r :: rest))) :
    W p l e R s m args below meth c H locs cells slots Q (F0 m pc ls st) := by
  refine va_calli (va_runU (As := As) (rest := rest) S hM cw (gg_preV hmv0 hW hrecv) rfl hn hsize hst (lv_room hw8) hd hf) hS (fun q _ h => h) (fun q h => h) (fun r u1 t H1 locs1 ht hvm hq hB hz hk hS1 => kk r u1 H1 locs1 hq ?_ hS1)
  rw [ht] at hB
  exact hmv u1 t s H1 hvm.symm hB
theorem gg_SUI {T : Type} {W0 : State → Heap → Prop} {W1 : T → State → Heap → Prop} (hmv0 : gg_Mv0 W0) (hmv : gg_Mv W1) {A : Addr → Prop} {H0 : Heap} {Q1 : Int32 → T → Prop} (hat : ClassAt s C cC) (S : CallFix p m c cc nL s args Ts own)
    (hM : Met l y ws rm (va_Pc (.ref b :: As) (fun U => W0 U U.heap)) (va_Qi Q1 (fun u t => W1 u t t.heap) A) mc ms A) (cw : va_CS R s args own index y bytes maxL ret ws rm mc ms n)
    (hW : W0 s H) (hrecv : ∃ cell : Cell, H[b]? = some cell ∧ cell.vm.isStatics = false ∧ s.vm.findClass C = some cell.cls) (hS : va_S A H0 H locs) (hn : As.length = n) (hsize : ls.size = nL) (hst : st = As.reverse ++ .ref b :: rest)
    (hw8 : (rest.map fun v => v.category).sum ≤ 8) (hd : decode cc pc = .ok (.invokespecial index, 3)) (hf : cells + mc ≤ R.cells ∧ slots + ms ≤ R.slots)
    (kk : ∀ (r : Int32) (u1 : T) (H1 : Heap) (locs1 : List Loc), Q1 r u1 → W1 u1 s H1 → va_S A H0 H1 locs1 → W p l e R s m args below meth c H1 locs1 (cells + mc) (slots + ms) Q (F0 m (pc + 3) ls (.int r :: rest))) :
    W p l e R s m args below meth c H locs cells slots Q (F0 m pc ls st) := by
  refine va_calli (va_runSU (As := As) (rest := rest) hat S hM cw (gg_preV hmv0 hW hrecv) rfl hn hsize hst (lv_room hw8) hd hf) hS (fun q _ h => h) (fun q h => h) (fun r u1 t H1 locs1 ht hvm hq hB hz hk hS1 => kk r u1 H1 locs1 hq ?_ hS1)
  rw [ht] at hB
  exact hmv u1 t s H1 hvm.symm hB
end GGROWSU
/-! a superclass's method that it has of its own superclass -/
section GGSUO
variable {p : Program} {l : Launch} {e : Env} {R : Room} {s : State} {m : MethodId} {args : Array Value} {below : List Frame} {meth : Method} {c : Code}
theorem gg_callSUo {T : State} {locs : List Loc} {cells slots : Nat} (X : Stand p l e R s m args below meth c T locs cells slots) (hexec : p.tables.exec = Jvm.exec) {own owner : String} {index : Nat} {x y : MethodName} {bytes : ByteArray} {maxL : Nat} {ret : Option FieldType}
    (hown : s.vm.findClass own = some m.cls) (hlink : (Cond.methodLink own index x).before args s = true) (hsame : (Cond.sameMethod x.cls owner x.name x.desc).before args s = true) (hyx : y = ⟨owner, x.name, x.desc⟩) (hsup : (Cond.superclass own x.cls).before args s = true) (hsup2 : (Cond.superclass x.cls owner).before args s = true)
    (hinst : (Cond.instanceMethod y).before args s = true) (hcode : (Cond.code y bytes maxL ret).before args s = true) (hno : x.name ≠ "<init>")
    {W : Nat} {Pre : Pt → Array Value → Prop} {Post : Pt → Array Value → Option Value → Pt → Prop} (hK : Back l R p e below s args y 3 W Pre Post)
    {b : Addr} {cellB : Cell} {kB : Class} (hcell : T.heap[b]? = some cellB) (hobj : cellB.vm.isStatics = false) (hkB : s.vm.classes[cellB.cls]? = some kB)
    {g : JFrame} (hg : g.method = m) (hsize : g.locals.size = c.maxLocals) {argsL rest : List Value} (hlen : ∀ sig, parseMethodDescriptor y.desc = some sig → argsL.length = sig.parameters.length)
    (hstack : g.stack = argsL.reverse ++ .ref b :: rest) (hW : 2 * g.monitorRoom + (rest.map fun v => v.category).sum ≤ W) (hdg : decode c.code g.pc = .ok (.invokespecial index, 3))
    (hpre : ∀ vm₁, s.WarmedH vm₁ → Pre ⟨T.setVm vm₁, locs, cells, slots⟩ (Value.ref b :: argsL).toArray) :
    ∃ (v : Option Value) (vm₁ : Vm) (B : Pt), s.WarmedH vm₁ ∧ Stand p l e R s m args below meth c B.U B.locs B.cells B.slots ∧ Post ⟨T.setVm vm₁, locs, cells, slots⟩ (Value.ref b :: argsL).toArray v B ∧
      ∀ target, Steps p.tables e below (B.U.setTop { g with pc := g.pc + 3, stack := v.toList ++ rest }) target → Steps p.tables e below (T.setTop g) target := by
  subst hyx
  obtain ⟨mk, methM, hnamed, hmethM, hstM, habM⟩ := Cond.instanceMethod_spec hinst
  obtain ⟨methM', cM, hmethM', -, -, -, -, -, -, hsigM⟩ := Cond.code_spec hnamed hcode
  cases hmethM.symm.trans hmethM'
  obtain ⟨ps, dk, kp, hps, hdk, hkp, hsuper, -, -, hnid⟩ := Cond.superclass_spec hown hsup
  obtain ⟨pp, dk2, kp2, hps2, hdk2, hkp2, hsuper2, -, -, hnid2⟩ := Cond.superclass_spec hps hsup2
  have hpm : pp = mk.cls := Option.some.inj (hps2.symm.trans (findClass_of_methodNamed hnamed))
  have hsub : s.vm.isSubclass ps mk.cls = true := by
    rw [← hpm]
    have h9 : ∃ n, s.vm.classes.size = n + 1 := by
      have h1 := (Array.getElem?_eq_some_iff.mp hdk2).1
      exact ⟨s.vm.classes.size - 1, by omega⟩
    obtain ⟨n, hn⟩ := h9
    simp [Vm.isSubclass, hn, Vm.isSubclassAux, hdk2, hsuper2]
  obtain ⟨vm₁, X₁, hstep₁⟩ := X.invokespecialUp hexec hown hlink hsame hnamed hmethM hstM habM hno hdk hnid hps hsuper hsub (a := b) (cell := cellB) hcell
    (fun z h => by rw [h] at hobj; cases hobj) hkB (g := g) hg (argsL := argsL) (rest := rest) (hlen _ hsigM) hstack hdg
  obtain ⟨v, B, X', hpost, hsteps⟩ := hK m meth c ⟨T.setVm vm₁, locs, cells, slots⟩ { g with stack := rest } (.invokespecial index) mk (Value.ref b :: argsL).toArray X₁ hg hsize hdg hW (X₁.named hnamed) (hpre vm₁ X₁.warmed)
  exact ⟨v, vm₁, B, X₁.warmed, X', hpost, fun target h => hstep₁ _ (by rw [doInvoke_state]; exact hsteps.trans h)⟩
theorem gg_SUoI {T : Type} {W0 : State → Heap → Prop} {W1 : T → State → Heap → Prop} (hmv0 : gg_Mv0 W0) (hmv : gg_Mv W1) {A : Addr → Prop} {H0 H : Heap} {locs : List Loc} {cells slots : Nat} {Q : State → Prop} {cc bytes : ByteArray} {pc nL maxL n index : Nat} {ls : Array Slot} {rest st : List Value} {ret : Option FieldType} {rm : Room} {own owner C : String} {x y : MethodName} {b : Addr} {As : List Value} {cC : ClassId}
    {Q1 : Int32 → T → Prop} (hat : ClassAt s C cC) (S : CallFix p m c cc nL s args lw_all own) (hM : Met l y (Cond.code y bytes maxL ret :: lw_all) rm (va_Pc (.ref b :: As) (fun U => W0 U U.heap)) (va_Qi Q1 (fun u t => W1 u t t.heap) A) 0 0 A)
    (h1 : Cond.methodLink own index x ∈ lw_all) (h2 : Cond.sameMethod x.cls owner x.name x.desc ∈ lw_all) (hyx : y = ⟨owner, x.name, x.desc⟩) (h3 : Cond.superclass own x.cls ∈ lw_all) (h4 : Cond.superclass x.cls owner ∈ lw_all) (h5 : Cond.instanceMethod y ∈ lw_all) (h6 : Cond.initialized y.cls ∈ lw_all) (h7 : Cond.code y bytes maxL ret ∈ lw_all) (hno : x.name ≠ "<init>") (hlen : (parseMethodDescriptor y.desc).map (fun d => d.parameters.length) = some n)
    (hrc : rm.cells = 0) (hrs : rm.slots = 0) (hR : rm.frames + 1 ≤ R.frames ∧ 8 + (maxL + 11) + rm.locals ≤ R.locals)
    (hW : W0 s H) (hrecv : ∃ cell : Cell, H[b]? = some cell ∧ cell.vm.isStatics = false ∧ s.vm.findClass C = some cell.cls) (hS : va_S A H0 H locs) (hn : As.length = n) (hsize : ls.size = nL) (hst : st = As.reverse ++ .ref b :: rest)
    (hw8 : (rest.map fun v => v.category).sum ≤ 8) (hd : decode cc pc = .ok (.invokespecial index, 3)) (hf : cells ≤ R.cells ∧ slots ≤ R.slots)
    (kk : ∀ (r : Int32) (u1 : T) (H1 : Heap) (locs1 : List Loc), Q1 r u1 → W1 u1 s H1 → va_S A H0 H1 locs1 → W p l e R s m args below meth c H1 locs1 (cells + 0) (slots + 0) Q (F0 m (pc + 3) ls (.int r :: rest))) :
    W p l e R s m args below meth c H locs cells slots Q (F0 m pc ls st) := by
  have hts := S.2.2.2.2
  have hp := gg_preV (C := C) (b := b) (As := As) hmv0 hW hrecv
  have hrun : va_Run p l e R s m args below meth c H locs cells slots 0 0 (F0 m pc ls st) rest (va_Qi Q1 (fun u t => W1 u t t.heap) A (Value.ref b :: As).toArray) A := by
    have hG : GoodIn lw_all (Cond.code y bytes maxL ret :: lw_all) := lw_meth h7
    have hK : Back l R p e below s args y 3 8 (PreOf R 0 0 (va_Pc (.ref b :: As) (fun U => W0 U U.heap))) (PostOf (va_Qi Q1 (fun u t => W1 u t t.heap) A) 0 0 A) :=
      back_of (bytes := bytes) (maxL := maxL) (ret := ret) hM hp.1 hrc hrs hR.1 hR.2 (pay_in hts hG) List.mem_cons_self (fun a' U hW => word_at hW (Or.inl (by first | rfl | simp [Cond.onTables, Cond.keeps, Cond.steady])) (hts _ h6))
    obtain ⟨hx, hb, hml, ho, -⟩ := S
    obtain ⟨-, ⟨cellB, hcB, hoB, hclB⟩, hPc⟩ := hp
    obtain ⟨hfc, kB, hkB, -⟩ := hat
    cases hfc.symm.trans hclB
    intro T9 hT X
    obtain ⟨v, vm₁, ⟨U', l2, c2, s2⟩, hW₁, X', ⟨g', mk, t, L, e1, e2, hq, g1, hL, g2, g3⟩, st9⟩ := gg_callSUo X hx (bytes := bytes) (maxL := maxL) (ret := ret) ho (hts _ h1) (hts _ h2) hyx (hts _ h3) (hts _ h4) (hts _ h5) (hts _ h7) hno hK (by rw [hT]; exact hcB) hoB hkB (g := F0 m pc ls st) rfl (hsize.trans hml.symm) (argsL := As) (rest := rest)
      (fun sig h => by
        rw [h] at hlen
        exact hn.trans (Option.some.inj hlen).symm) hst (lv_room hw8) (by rw [hb]; exact hd) (fun vm₁ hW₁ => ⟨hf.1, hf.2, hPc (T9.setVm vm₁) hT hW₁⟩)
    dsimp only [Pt.U, Pt.locs, Pt.cells, Pt.slots] at X' e1 e2 g1 g2 g3 st9
    subst g1; subst g2; subst g3
    exact ⟨v, (T9.setVm vm₁).calling g' mk (Value.ref b :: As).toArray, t, U', L, hT, X', hL, e1, e2, hq, st9⟩
  refine va_calli hrun hS (fun q _ h => h) (fun q h => h) (fun r u1 t H1 locs1 ht hvm hq hB hz hk hS1 => kk r u1 H1 locs1 hq ?_ hS1)
  rw [ht] at hB
  exact hmv u1 t s H1 hvm.symm hB
end GGSUO
