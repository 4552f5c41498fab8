/-! THE CLASS'S WORLD, on: throws -/
section XR4
variable {p : Program} {l : Launch} {e : Env} {R : Room} {s : State} {m : MethodId} {args : Array Value} {below : List Frame} {meth : Method} {c : Code} {H H0 : Heap} {locs : List Loc} {cells slots : Nat} {Q : State → Prop}
variable {cc bytes : ByteArray} {pc nL maxL n index mc ms : Nat} {ls : Array Slot} {rest st : List Value} {ret : Option FieldType} {hh : List (Nat × Nat × Nat × Nat)} {ws : List Cond} {rm : Room} {Ts : List Cond} {own C : String} {y : MethodName} {b : Addr} {As : List Value}
variable {D : va_G} {E : Nat → ClassId} {A : Nat → Prop} {ad sk : Nat → Nat} {χ σ : xx_S}
/-- the heap has grown -/
theorem xx_grow {H1 : Heap} (hW : xx_W D E A ad sk χ s H) (hq : ∀ q : Nat, q < H.size → H1[q]? = H[q]?) : xx_W D E A ad sk χ s H1 :=
  ⟨hW.1.kept (fun k x hx => hq x.1 ((hW.1 k x hx).lt)), hW.2⟩
/-- a throw leaves: the class by its name, the world -/
def xx_XC (D : va_G) (E : Nat → ClassId) (A : Nat → Prop) (ad sk : Nat → Nat) (X : String → xx_S → Prop) : String → State → State → Prop :=
  vx_X (fun z : String × xx_S => X z.1 z.2) (fun E' z t => E' = z.1 ∧ xx_W D E A ad sk z.2 t t.heap) A
theorem xx_at_io_g : ∀ w ∈ Cond.classLink RX0 556 "java/lang/IndexOutOfBoundsException" :: Cond.initialized "java/lang/IndexOutOfBoundsException" :: vx_at0 RX0 558 "java/lang/IndexOutOfBoundsException" ["java/lang/RuntimeException", "java/lang/Exception"], vx_ot w = true := by decide +kernel
/-- throw new IndexOutOfBoundsException() in asksPlace -/
theorem xx_throwIO {N k : Nat} {X : String → xx_S → Prop} {Qc : Array Value → State → Outcome → State → Prop} (hx : p.tables.exec = Jvm.exec) (hb : c.code = cc) (hlt : l.stackTraces = false) (hts : ∀ w ∈ lw_all, w.before args s = true) (hown : s.vm.findClass RX0 = some m.cls) (hA : xx_A sk A s) (hW : xx_W D E A ad sk χ s H) (hS : va_S A s.heap H locs) (hsz : ls.size = c.maxLocals)
    (q1 : Cond.classLink RX0 556 "java/lang/IndexOutOfBoundsException" ∈ lw_all) (q2 : Cond.initialized "java/lang/IndexOutOfBoundsException" ∈ lw_all)
    (d0 : decode cc pc = .ok (.new 556, 3)) (d3 : decode cc (pc + 3) = .ok (.dup, 1)) (d4 : decode cc (pc + 4) = .ok (.invokespecial 558, 3)) (d7 : decode cc (pc + 7) = .ok (.athrow, 1))
    (hout : ∀ x ∈ c.exceptionTable.toList, covers x (pc + 7) = false) (hlocks : meth.locks = false) (hRf : 6 ≤ R.frames) (hRl : (rest.map fun v => v.category).sum + 100 ≤ R.locals) (hC : k + 1 ≤ N) (hR : N ≤ R.cells ∧ 64 * N ≤ R.slots)
    (hX : X "java/lang/IndexOutOfBoundsException" χ) : W p l e R s m args below meth c H locs k (64 * k) (vx_MQ below Qc (xx_XC D E A ad sk X) args s N (64 * N) A) (F0 m pc ls rest) := by
  refine vx_throw0 (A := A) (names := ["java/lang/RuntimeException", "java/lang/Exception"]) hx hb hlt hown (by decide) (by decide) (hts _ q1) (hts _ q2) (xx_at_io hts hA.1) xx_at_io_g hA.2.2.1.1 hA.2.2.1.2 hS hsz d0 d3 d4 d7 hout (by show 2 + 3 < R.frames; omega) (by show _ + (13 * (2 + 1) + 42) ≤ _; omega) (by omega) (by omega) hlocks (fun t hal hz hq => ?_) hS.2.2 hC (by omega)
  refine ⟨("java/lang/IndexOutOfBoundsException", χ), hX, ⟨rfl, ?_⟩, Nat.le_trans hS.1 hz, fun q h1 h2 => ?_⟩
  · exact xx_mv D E A ad sk χ s t t.heap hal (xx_grow hW hq)
  · exact (hq q (Nat.lt_of_lt_of_le h1 hS.1)).trans (hS.2.1 q h1 h2)
/-- a call that may throw; k units are used up to here, the callee takes n1 more -/
theorem xx_eS {k n1 : Nat} {Q1 : Int32 → xx_S → Prop} {X : String → xx_S → Prop} (S : CallFix p m c cc nL s args Ts own) (hA : xx_A sk A s)
    (hM : vx_Met l y ws rm (va_Pc As (fun U => xx_V D E A ad sk σ U U.heap)) (va_Qi Q1 (fun u t => xx_W D E A ad sk u t t.heap) A) (xx_XC D E A ad sk X) n1 (64 * n1) A) (cw : CallB R s args own index y bytes maxL ret ws rm n1 (64 * n1) n ∧ (Cond.static y).before args s = true)
    (hW : xx_W D E A ad sk σ s H) (hS : va_S A s.heap H locs) (hn : As.length = n) (hsize : ls.size = nL) (hst : st = As.reverse ++ rest)
    (hw8 : (rest.map fun v => v.category).sum ≤ 8) (hd : decode cc pc = .ok (.invokestatic index, 3)) (hf : k + n1 ≤ R.cells ∧ 64 * (k + n1) ≤ R.slots)
    (kx : ∀ (E' : String) (ce : Cell) (q9 : Addr) (u1 : xx_S) (H1 : Heap) (locs1 : List Loc), X E' u1 → xx_W D E A ad sk u1 s H1 → va_S A s.heap H1 locs1 → H1[q9]? = some ce → ce.vm = .none → s.vm.findClass E' = some ce.cls → vx_W p l e R s m args below meth c H1 locs1 (k + n1) (64 * (k + n1)) Q (F0 m pc ls rest) q9)
    (kk : ∀ (r : Int32) (u1 : xx_S) (H1 : Heap) (locs1 : List Loc), Q1 r u1 → xx_W D E A ad sk u1 s H1 → va_S A s.heap H1 locs1 → W p l e R s m args below meth c H1 locs1 (k + n1) (64 * (k + n1)) Q (F0 m (pc + 3) ls (.int r :: rest))) :
    W p l e R s m args below meth c H locs k (64 * k) Q (F0 m pc ls st) := by
  rw [xx_lk] at hf
  refine vx_calli (vx_runS (As := As) (rest := rest) S hM cw (gg_preS (W0 := fun s H => xx_V D E A ad sk σ s H) (xx_mv0 D E A ad sk σ) (xx_toV hW hA hS)) rfl hn hsize hst (lv_room hw8) hd hf) hS (fun q _ h => h) (fun q h => h) (fun q _ h => h) (fun E' ce q9 u t H1 locs1 ht hvm hp hB hz hk hS1 hce hcv hcl => ?_) (fun r u1 t H1 locs1 ht hvm hq hB hz hk hS1 => ?_)
  · obtain ⟨rfl, hB⟩ := hB
    rw [ht] at hB
    rw [← xx_lk]
    exact kx _ ce q9 u.2 H1 locs1 hp (xx_mv D E A ad sk u.2 t s H1 hvm.symm hB) hS1 hce hcv hcl
  · rw [ht] at hB
    rw [← xx_lk]
    exact kk r u1 H1 locs1 hq (xx_mv D E A ad sk u1 t s H1 hvm.symm hB) hS1
/-- not caught here -/
theorem xx_eout {k N : Nat} {X : String → xx_S → Prop} {Qc : Array Value → State → Outcome → State → Prop} {E' : String} {ce : Cell} {q : Addr} (hout : ∀ x ∈ c.exceptionTable.toList, covers x pc = false) (hlocks : meth.locks = false) (hW : xx_W D E A ad sk χ s H) (hS : va_S A s.heap H locs) (hcell : H[q]? = some ce) (hv : ce.vm = .none) (hcl : s.vm.findClass E' = some ce.cls) (hC : k ≤ N) (hX : X E' χ) :
    vx_W p l e R s m args below meth c H locs k (64 * k) (vx_MQ below Qc (xx_XC D E A ad sk X) args s N (64 * N) A) (F0 m pc ls rest) q :=
  vx_out hout hlocks hcell hv hcl (fun t ht hal => ⟨(E', χ), hX, ⟨rfl, by rw [ht]; exact xx_mv D E A ad sk χ s t H hal hW⟩, hS.F ht⟩) hS.2.2 hC (Nat.mul_le_mul_left 64 hC)
end XR4
/-- what holds all through a body without handlers -/
theorem gg_entryX {l : Launch} {y : MethodName} {cc : ByteArray} {maxL : Nat} {ret : Option FieldType} {rm : Room} {as : List Value} {W0 : State → Heap → Prop} {Qc : Array Value → State → Outcome → State → Prop} {XC : String → State → State → Prop} {mc ms : Nat} {A : Addr → Prop}
    (hplain : plainName y.cls = true) (hlen : (lg_sl as).length ≤ maxL)
    (body : ∀ (p : Program) (e : Env) (s : State) (m : MethodId) (args : Array Value) (below : List Frame) (meth : Method) (c : Code), gg_C p s m args meth c y.cls cc maxL ret → (∀ x ∈ c.exceptionTable.toList, False) → W0 s s.heap → ∀ ls : Array Slot, lv_has ls maxL (lv_args 0 as) →
      W p l e rm s m args below meth c s.heap [] 0 0 (vx_MQ below Qc XC args s mc ms A) (F0 m 0 ls [])) :
    vx_Met l y (ws_ y cc maxL ret) rm (va_Pc as (fun U => W0 U U.heap)) Qc XC mc ms A := by
  refine vx_ofW (cc := cc) (maxL := maxL) (ret := ret) hplain rfl ?_
  intro p e s m args below meth c s₁ B hml htab hv
  obtain ⟨rfl, hW0⟩ := hv
  have hts := atoms_spec (ws := ws_ y cc maxL ret) B.pre
  have hl := lv_entry as (n := maxL) hlen
  rw [lg_entry_eq]
  exact body p e s m _ below meth c ⟨B.exec, B.bytes, hml, findClass_of_methodNamed B.named, fun w h => hts w (List.mem_cons_of_mem _ h), B.returns, B.notSynchronized⟩ htab hW0 _ hl
