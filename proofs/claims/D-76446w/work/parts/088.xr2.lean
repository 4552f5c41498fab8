/-! THE CLASS'S WORLD, on: what is made, what is stored, calls that count what they make -/
section XR2
variable {p : Program} {l : Launch} {e : Env} {R : Room} {s : State} {m : MethodId} {args : Array Value} {below : List Frame} {meth : Method} {c : Code} {H H0 : Heap} {locs : List Loc} {cells slots : Nat} {Q : State → Prop}
variable {cc bytes : ByteArray} {pc nL maxL n index mc ms : Nat} {ls : Array Slot} {rest st : List Value} {ret : Option FieldType} {hh : List (Nat × Nat × Nat × Nat)} {ws : List Cond} {rm : Room} {Ts : List Cond} {own C : String} {y : MethodName} {b : Addr} {As : List Value}
variable {D : va_G} {E : Nat → ClassId} {A : Nat → Prop} {ad sk : Nat → Nat} {χ σ : xx_S}
theorem xx_cs_nw {q : Nat} {a : va_E} (h : q ∉ xx_L χ) : xx_cs E ad sk χ ++ [(q, xx_tr E a)] = xx_cs E ad sk (xx_nw χ q a) := by
  have e1 : ∀ i, xx_c E ad sk (xx_nw χ q a) i = xx_c E ad sk χ i := fun i => (xx_c_eq E ad sk (fun _ => rfl) (fun _ => rfl)).symm
  unfold xx_cs
  rw [List.append_assoc, va_pl_push h, show xx_L (xx_nw χ q a) = xx_L χ ++ [q] from rfl, show xx_f (xx_nw χ q a) = va_up (xx_f χ) q a from rfl, xx_up_tr]
  congr 1
/-- an object of the class's own comes into the pool -/
theorem xx_new {T : u_T} {N ci : Nat} (hx : p.tables.exec = Jvm.exec) (hb : c.code = cc) (hts : ∀ w ∈ lw_all, w.before args s = true) (hin : ∀ w ∈ u_ws C T N, w ∈ lw_all) (ty : Nat → FieldType) (hty : ∀ k, k < N → parseFieldDescriptor (T k).2.2.1 = some (ty k)) (hown : s.vm.findClass own = some m.cls)
    (hcl : Cond.classLink own index C ∈ lw_all) (hinst : Cond.instantiable C N ∈ lw_all) (hini : Cond.initialized C ∈ lw_all) (hW : xx_W D E A ad sk χ s H) (hS : va_S A H0 H locs) (hA : ∀ q, H0.size ≤ q → A q) (hc : xx_cl[ci]? = some (C, T, N)) {fs : List Value} (hfs : ∀ j, j < N → defaultValue (ty j) = vp_V fs j)
    {k : Nat} (hcells : k + 1 ≤ R.cells) (hslots : 64 * (k + 1) ≤ R.slots) (hN : N ≤ 64) (hd : decode cc pc = .ok (.new index, 3))
    (kk : ∀ (q : Nat) (H1 : Heap), q ∉ xx_L χ → xx_W D E A ad sk (xx_nw χ q (.inr (ci, fs))) s H1 → va_S A H0 H1 locs → W p l e R s m args below meth c H1 locs (k + 1) (64 * (k + 1)) Q (F0 m (pc + 3) ls (.ref q :: rest))) : W p l e R s m args below meth c H locs k (64 * k) Q (F0 m pc ls rest) := by
  refine va_new (slots := 64 * k) hx hb hts hin ty hty hown (hts _ hcl) (hts _ hinst) (hts _ hini) hW.2.2.1 hW.1 hW.2.1 hS hA hc hfs hcells (by omega) hd (fun q H1 hP hD hS1 => ?_)
  have hq : q ∉ xx_L χ := va_pl_fresh2 (f := fun z => xx_tr E (xx_f χ z)) hD
  have hcs : xx_cs E ad sk χ ++ [(q, .inr (ci, fs))] = xx_cs E ad sk (xx_nw χ q (.inr (ci, fs))) := xx_cs_nw (a := .inr (ci, fs)) hq
  rw [hcs] at hP hD
  exact W.widen (Nat.le_refl _) (by omega) (kk q H1 hq ⟨hP, hD, hW.2.2⟩ hS1)
/-- a gleaner among the folk -/
theorem xx_astF (hx : p.tables.exec = Jvm.exec) (hb : c.code = cc) (hN : xx_N s) (hW : xx_W D E A ad sk χ s H) (hS : va_S A H0 H locs) {i : Int32} (hin : vp_in i 5) {y k : Nat} {n a : Int32} (hy : xx_gl χ y k n a) (hd : decode cc pc = .ok (.aastore, 1))
    (kk : ∀ (H1 : Heap) (locs1 : List Loc), xx_W D E A ad sk (xx_rs χ 43 i.toNatClampNeg (some y)) s H1 → va_S A H0 H1 locs1 → W p l e R s m args below meth c H1 locs1 cells slots Q (F0 m (pc + 1) ls rest)) : W p l e R s m args below meth c H locs cells slots Q (F0 m pc ls (.ref y :: .int i :: .ref (ad 43) :: rest)) := by
  obtain ⟨h1, h2, h3, h4⟩ := hy
  obtain ⟨q0, hq⟩ := xx_pl E ad sk h1
  rw [h2] at hq
  have hq : (xx_cs E ad sk χ)[q0]? = some (y, .inr (k, [.int n, .int a])) := hq
  have h43 : (xx_cs E ad sk χ)[43]? = some (ad 43, .inl (E 5, xx_q 5 (xx_r χ 43))) := xx_cs_at E ad sk χ (by omega)
  have hset : (xx_cs E ad sk χ).set 43 (ad 43, .inl (E 5, xx_q 5 (va_up (xx_r χ 43) i.toNatClampNeg (some y)))) = xx_cs E ad sk (xx_rs χ 43 i.toNatClampNeg (some y)) := by
    refine xx_cs_set E ad sk (by omega) ?_ (fun j _ hj => xx_c_eq E ad sk (fun t => rfl) (fun t => by rw [xx_rrs, if_neg (fun z => hj z.1)])) rfl rfl
    show Sum.inl (E 5, xx_q 5 (xx_r (xx_rs χ 43 i.toNatClampNeg (some y)) 43)) = _
    congr 4
  have h0 : xx_r (xx_rs χ 43 i.toNatClampNeg (some y)) 0 0 = some (ad 0) := by
    rw [xx_rrs, if_neg (fun z => absurd z.1 (by decide))]
    exact hW.2.2.2
  have kk' : ∀ (H1 : Heap) (locs1 : List Loc), va_P D xx_cl ((xx_cs E ad sk χ).set 43 (ad 43, .inl (E 5, xx_q 5 (va_up (xx_r χ 43) i.toNatClampNeg (some y))))) H1 → va_D A ((xx_cs E ad sk χ).set 43 (ad 43, .inl (E 5, xx_q 5 (va_up (xx_r χ 43) i.toNatClampNeg (some y))))) → va_S A H0 H1 locs1 → W p l e R s m args below meth c H1 locs1 cells slots Q (F0 m (pc + 1) ls rest) := by
    intro H1 locs1 hP hD hS1
    rw [hset] at hP hD
    exact kk H1 locs1 ⟨hP, hD, hW.2.2.1, h0⟩ hS1
  obtain ⟨⟨-, -, -, ⟨c10, c11, c12, c13, c14, -, -⟩, -⟩, -⟩ := hN
  have hk : k = 9 ∨ k = 10 ∨ k = 11 ∨ k = 12 ∨ k = 13 ∨ k = 14 := by omega
  rcases hk with h | h | h | h | h | h <;> subst h
  · exact va_astq (r := (RX9, TX9, 2)) hx hb hW.2.2.1 hW.1 hW.2.1 hS 43 5 q0 9 h43 rfl hq rfl hin hd kk'
  · exact va_astqO (r := (RX10, TX10, 2)) (E := RX9) hx hb hW.2.2.1 hW.1 hW.2.1 hS 43 5 q0 10 h43 rfl c10 hq rfl hin hd kk'
  · exact va_astqO (r := (RX11, TX11, 2)) (E := RX9) hx hb hW.2.2.1 hW.1 hW.2.1 hS 43 5 q0 11 h43 rfl c11 hq rfl hin hd kk'
  · exact va_astqO (r := (RX12, TX12, 2)) (E := RX9) hx hb hW.2.2.1 hW.1 hW.2.1 hS 43 5 q0 12 h43 rfl c12 hq rfl hin hd kk'
  · exact va_astqO (r := (RX13, TX13, 2)) (E := RX9) hx hb hW.2.2.1 hW.1 hW.2.1 hS 43 5 q0 13 h43 rfl c13 hq rfl hin hd kk'
  · exact va_astqO (r := (RX14, TX14, 2)) (E := RX9) hx hb hW.2.2.1 hW.1 hW.2.1 hS 43 5 q0 14 h43 rfl c14 hq rfl hin hd kk'
/-! calls: k units are used up to here, the callee takes n1 more (a unit is one thing made and up to 64 places in it) -/
theorem xx_lk {k n1 : Nat} : 64 * (k + n1) = 64 * k + 64 * n1 := Nat.mul_add _ _ _
theorem xx_aI {k n1 : Nat} {Q1 : xx_S → Prop} (S : CallFix p m c cc nL s args Ts own) (hA : xx_A sk A s)
    (hM : Met l y ws rm (va_Pc (.ref b :: As) (fun U => xx_V D E A ad sk σ U U.heap)) (va_Qv Q1 (fun u t => xx_W D E A ad sk u t t.heap) A) n1 (64 * n1) A) (cw : CallB R s args own index y bytes maxL none ws rm n1 (64 * n1) n ∧ y.name = "<init>" ∧ (Cond.instanceMethod y).before args s = true)
    (hW : xx_W D E A ad sk σ s H) (hS : va_S A s.heap H locs) (hn : As.length = n) (hsize : ls.size = nL) (hst : st = As.reverse ++ .ref b :: rest)
    (hw8 : (rest.map fun v => v.category).sum ≤ 8) (hd : decode cc pc = .ok (.invokespecial index, 3)) (hf : k + n1 ≤ R.cells ∧ 64 * (k + n1) ≤ R.slots)
    (kk : ∀ (u1 : xx_S) (H1 : Heap) (locs1 : List Loc), Q1 u1 → xx_W D E A ad sk u1 s H1 → va_S A s.heap H1 locs1 → W p l e R s m args below meth c H1 locs1 (k + n1) (64 * (k + n1)) Q (F0 m (pc + 3) ls rest)) :
    W p l e R s m args below meth c H locs k (64 * k) Q (F0 m pc ls st) := by
  rw [xx_lk] at hf
  refine va_callv (va_runI (As := As) (rest := rest) S hM cw (gg_preS (W0 := fun s H => xx_V D E A ad sk σ s H) (xx_mv0 D E A ad sk σ) (xx_toV hW hA hS)) rfl hn hsize hst (lv_room hw8) hd hf) hS (fun q _ h => h) (fun q h => h) (fun u1 t H1 locs1 ht hvm hq hB hz hk hS1 => ?_)
  rw [ht] at hB
  rw [← xx_lk]
  exact kk u1 H1 locs1 hq (xx_mv D E A ad sk u1 t s H1 hvm.symm hB) hS1
theorem xx_aQ {k n1 : Nat} {Q1 : Option Nat → xx_S → Prop} (S : CallFix p m c cc nL s args Ts own) (hA : xx_A sk A s)
    (hM : Met l y ws rm (va_Pc As (fun U => xx_V D E A ad sk σ U U.heap)) (va_Qq Q1 (fun u t => xx_W D E A ad sk u t t.heap) A) n1 (64 * n1) A) (cw : CallB R s args own index y bytes maxL ret ws rm n1 (64 * n1) n ∧ (Cond.static y).before args s = true)
    (hW : xx_W D E A ad sk σ s H) (hS : va_S A s.heap H locs) (hn : As.length = n) (hsize : ls.size = nL) (hst : st = As.reverse ++ rest)
    (hw8 : (rest.map fun v => v.category).sum ≤ 8) (hd : decode cc pc = .ok (.invokestatic index, 3)) (hf : k + n1 ≤ R.cells ∧ 64 * (k + n1) ≤ R.slots)
    (kk : ∀ (r : Option Nat) (u1 : xx_S) (H1 : Heap) (locs1 : List Loc), Q1 r u1 → xx_W D E A ad sk u1 s H1 → va_S A s.heap H1 locs1 → W p l e R s m args below meth c H1 locs1 (k + n1) (64 * (k + n1)) Q (F0 m (pc + 3) ls (va_rf r :: rest))) :
    W p l e R s m args below meth c H locs k (64 * k) Q (F0 m pc ls st) := by
  rw [xx_lk] at hf
  refine va_callq (va_runS (As := As) (rest := rest) S hM cw (gg_preS (W0 := fun s H => xx_V D E A ad sk σ s H) (xx_mv0 D E A ad sk σ) (xx_toV hW hA hS)) rfl hn hsize hst (lv_room hw8) hd hf) hS (fun q _ h => h) (fun q h => h) (fun r u1 t H1 locs1 ht hvm hq hB hz hk hS1 => ?_)
  rw [ht] at hB
  rw [← xx_lk]
  exact kk r u1 H1 locs1 hq (xx_mv D E A ad sk u1 t s H1 hvm.symm hB) hS1
theorem xx_aS {k n1 : Nat} {Q1 : Int32 → xx_S → Prop} (S : CallFix p m c cc nL s args Ts own) (hA : xx_A sk A s)
    (hM : Met l y ws rm (va_Pc As (fun U => xx_V D E A ad sk σ U U.heap)) (va_Qi Q1 (fun u t => xx_W D E A ad sk u t t.heap) A) n1 (64 * n1) A) (cw : CallB R s args own index y bytes maxL ret ws rm n1 (64 * n1) n ∧ (Cond.static y).before args s = true)
    (hW : xx_W D E A ad sk σ s H) (hS : va_S A s.heap H locs) (hn : As.length = n) (hsize : ls.size = nL) (hst : st = As.reverse ++ rest)
    (hw8 : (rest.map fun v => v.category).sum ≤ 8) (hd : decode cc pc = .ok (.invokestatic index, 3)) (hf : k + n1 ≤ R.cells ∧ 64 * (k + n1) ≤ R.slots)
    (kk : ∀ (r : Int32) (u1 : xx_S) (H1 : Heap) (locs1 : List Loc), Q1 r u1 → xx_W D E A ad sk u1 s H1 → va_S A s.heap H1 locs1 → W p l e R s m args below meth c H1 locs1 (k + n1) (64 * (k + n1)) Q (F0 m (pc + 3) ls (.int r :: rest))) :
    W p l e R s m args below meth c H locs k (64 * k) Q (F0 m pc ls st) := by
  rw [xx_lk] at hf
  refine gg_SI (W0 := fun s H => xx_V D E A ad sk σ s H) (xx_mv0 D E A ad sk σ) (xx_mv D E A ad sk) S hM cw (xx_toV hW hA hS) hS hn hsize hst hw8 hd hf ?_
  rw [← xx_lk]
  exact kk
theorem xx_aV {k n1 : Nat} {Q1 : Int32 → xx_S → Prop} (S : CallFix p m c cc nL s args Ts own) (hA : xx_A sk A s)
    (hM : Met l y ws rm (va_Pc (.ref b :: As) (fun U => xx_V D E A ad sk σ U U.heap)) (va_Qi Q1 (fun u t => xx_W D E A ad sk u t t.heap) A) n1 (64 * n1) A) (cw : CallW R s args own C index y bytes maxL ret ws rm n1 (64 * n1) n)
    (hW : xx_W D E A ad sk σ s H) (hrecv : ∃ cell : Cell, H[b]? = some cell ∧ cell.vm.isStatics = false ∧ s.vm.findClass C = some cell.cls) (hS : va_S A s.heap H locs) (hn : As.length = n) (hsize : ls.size = nL) (hst : st = As.reverse ++ .ref b :: rest)
    (hw8 : (rest.map fun v => v.category).sum ≤ 8) (hd : decode cc pc = .ok (.invokevirtual index, 3)) (hf : k + n1 ≤ R.cells ∧ 64 * (k + n1) ≤ R.slots)
    (kk : ∀ (r : Int32) (u1 : xx_S) (H1 : Heap) (locs1 : List Loc), Q1 r u1 → xx_W D E A ad sk u1 s H1 → va_S A s.heap H1 locs1 → W p l e R s m args below meth c H1 locs1 (k + n1) (64 * (k + n1)) Q (F0 m (pc + 3) ls (.int r :: rest))) :
    W p l e R s m args below meth c H locs k (64 * k) Q (F0 m pc ls st) := by
  rw [xx_lk] at hf
  refine gg_VI (W0 := fun s H => xx_V D E A ad sk σ s H) (xx_mv0 D E A ad sk σ) (xx_mv D E A ad sk) S hM cw (xx_toV hW hA hS) hrecv hS hn hsize hst hw8 hd hf ?_
  rw [← xx_lk]
  exact kk
theorem xx_aW {k n1 : Nat} {Q1 : Int32 → xx_S → Prop} (S : CallFix p m c cc nL s args Ts own) (hA : xx_A sk A s)
    (hM : Met l y ws rm (va_Pc (.ref b :: As) (fun U => xx_V D E A ad sk σ U U.heap)) (va_Qi Q1 (fun u t => xx_W D E A ad sk u t t.heap) A) n1 (64 * n1) A) (cw : vx_CVW R s args own C index y bytes maxL ret hh ws rm n1 (64 * n1) n)
    (hW : xx_W D E A ad sk σ s H) (hrecv : ∃ cell : Cell, H[b]? = some cell ∧ cell.vm.isStatics = false ∧ s.vm.findClass C = some cell.cls) (hS : va_S A s.heap H locs) (hn : As.length = n) (hsize : ls.size = nL) (hst : st = As.reverse ++ .ref b :: rest)
    (hw8 : (rest.map fun v => v.category).sum ≤ 8) (hd : decode cc pc = .ok (.invokevirtual index, 3)) (hf : k + n1 ≤ R.cells ∧ 64 * (k + n1) ≤ R.slots)
    (kk : ∀ (r : Int32) (u1 : xx_S) (H1 : Heap) (locs1 : List Loc), Q1 r u1 → xx_W D E A ad sk u1 s H1 → va_S A s.heap H1 locs1 → W p l e R s m args below meth c H1 locs1 (k + n1) (64 * (k + n1)) Q (F0 m (pc + 3) ls (.int r :: rest))) :
    W p l e R s m args below meth c H locs k (64 * k) Q (F0 m pc ls st) := by
  rw [xx_lk] at hf
  refine gg_WI (W0 := fun s H => xx_V D E A ad sk σ s H) (xx_mv0 D E A ad sk σ) (xx_mv D E A ad sk) S hM cw (xx_toV hW hA hS) hrecv hS hn hsize hst hw8 hd hf ?_
  rw [← xx_lk]
  exact kk
theorem xx_aVV {k n1 : Nat} {Q1 : xx_S → Prop} (S : CallFix p m c cc nL s args Ts own) (hA : xx_A sk A s)
    (hM : Met l y ws rm (va_Pc (.ref b :: As) (fun U => xx_V D E A ad sk σ U U.heap)) (va_Qv Q1 (fun u t => xx_W D E A ad sk u t t.heap) A) n1 (64 * n1) A) (cw : CallW R s args own C index y bytes maxL ret ws rm n1 (64 * n1) n)
    (hW : xx_W D E A ad sk σ s H) (hrecv : ∃ cell : Cell, H[b]? = some cell ∧ cell.vm.isStatics = false ∧ s.vm.findClass C = some cell.cls) (hS : va_S A s.heap H locs) (hn : As.length = n) (hsize : ls.size = nL) (hst : st = As.reverse ++ .ref b :: rest)
    (hw8 : (rest.map fun v => v.category).sum ≤ 8) (hd : decode cc pc = .ok (.invokevirtual index, 3)) (hf : k + n1 ≤ R.cells ∧ 64 * (k + n1) ≤ R.slots)
    (kk : ∀ (u1 : xx_S) (H1 : Heap) (locs1 : List Loc), Q1 u1 → xx_W D E A ad sk u1 s H1 → va_S A s.heap H1 locs1 → W p l e R s m args below meth c H1 locs1 (k + n1) (64 * (k + n1)) Q (F0 m (pc + 3) ls rest)) :
    W p l e R s m args below meth c H locs k (64 * k) Q (F0 m pc ls st) := by
  rw [xx_lk] at hf
  refine gg_VV (W0 := fun s H => xx_V D E A ad sk σ s H) (xx_mv0 D E A ad sk σ) (xx_mv D E A ad sk) S hM cw (xx_toV hW hA hS) hrecv hS hn hsize hst hw8 hd hf ?_
  rw [← xx_lk]
  exact kk
/-- answers that are references -/
theorem xx_qret {T : Type} {W1 : T → State → Heap → Prop} (hmv : gg_Mv W1) {u : T} {Q1 : Option Nat → T → Prop} {v : Option Nat} {rt : FieldType} (hrt : (∃ n, rt = .object n) ∨ ∃ t, rt = .array t) (C0 : gg_C p s m args meth c own cc nL (some rt)) (hW : W1 u s H) (hS : va_S A s.heap H locs) (hq : Q1 v u) (hd : decode cc pc = .ok (.areturn, 1)) :
    W p l e R s m args below meth c H locs cells slots (MQ below (va_Qq Q1 (fun u t => W1 u t t.heap) A) args s cells slots A) (F0 m pc ls [va_rf v]) :=
  W.aret (hlocks := C0.2.2.2.2.2.2) C0.1 C0.2.1 C0.2.2.2.2.2.1 hrt (va_rf_or v) (fun t ht hWm => ⟨⟨v, u, rfl, hq, by show W1 u t t.heap; rw [ht]; exact hmv u s t H hWm.alike hW⟩, hS.F ht⟩) hS.2.2 hd
/-- Object's own constructor -/
theorem xx_oinit (hx : p.tables.exec = Jvm.exec) (hb : c.code = cc) (hsz : ls.size = nL) (hml : c.maxLocals = nL) (hown : s.vm.findClass own = some m.cls) (hts : ∀ w ∈ lw_all, w.before args s = true) (q1 : Cond.methodLink own index Lib.objectInit ∈ lw_all) (q2 : Cond.instanceMethod Lib.objectInit ∈ lw_all) (q3 : Cond.code Lib.objectInit ⟨#[0xb1]⟩ 1 none ∈ lw_all)
    (hR : 1 ≤ R.frames ∧ 20 ≤ R.locals) (hw8 : (rest.map fun v => v.category).sum ≤ 8) {a : Nat} (hd : decode cc pc = .ok (.invokespecial index, 3))
    (kk : W p l e R s m args below meth c H locs cells slots Q (F0 m (pc + 3) ls rest)) : W p l e R s m args below meth c H locs cells slots Q (F0 m pc ls (.ref a :: rest)) :=
  W.objInit hx hb hown (hts _ q1) (hts _ q2) (hts _ q3) rfl (hsz.trans hml.symm) rfl hd hR.1 (by show 2 * 0 + _ + 12 ≤ _; omega) kk
end XR2
