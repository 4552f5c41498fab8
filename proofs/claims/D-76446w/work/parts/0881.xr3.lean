/-! THE CLASS'S WORLD, on: the sheets' arrays -/
/-- an array of a sort in the pool: 0 bytes, 1 shorts, 2 ints -/
def xx_ob (χ : xx_S) (y so n : Nat) (f : Nat → Int32) : Prop := y ∈ xx_L χ ∧ xx_f χ y = .inl (cc_cls so, n, .inl f) ∧ so < 3
def xx_an (so : Nat) : String := if so = 0 then "[B" else if so = 1 then "[S" else "[I"
theorem xx_an_nc0 : ∀ so, so < 3 → ∀ t, t < 3 → (so = t ∨ (xx_an so, xx_an t) ∈ xx_ncs) := by decide
theorem xx_an_nc (so : Nat) (h1 : so < 3) (t : Nat) (h2 : t < 3) (h : so ≠ t) : (xx_an so, xx_an t) ∈ xx_ncs := (xx_an_nc0 so h1 t h2).resolve_left h
section XR3
variable {p : Program} {l : Launch} {e : Env} {R : Room} {s : State} {m : MethodId} {args : Array Value} {below : List Frame} {meth : Method} {c : Code} {H H0 : Heap} {locs : List Loc} {cells slots : Nat} {Q : State → Prop}
variable {cc bytes : ByteArray} {pc nL maxL n index mc ms : Nat} {ls : Array Slot} {rest st : List Value} {ret : Option FieldType} {hh : List (Nat × Nat × Nat × Nat)} {ws : List Cond} {rm : Room} {Ts : List Cond} {own C : String} {y : MethodName} {b : Addr} {As : List Value}
variable {D : va_G} {E : Nat → ClassId} {A : Nat → Prop} {ad sk : Nat → Nat} {χ σ : xx_S}
theorem xx_anE {so : Nat} (hso : so < 3) (hW : xx_W D E A ad sk χ s H) : s.vm.findClass (xx_an so) = some (E (cc_cls so)) := by
  have h0 := (hW.2.2.1.2 0 (E 0, .int) rfl).2
  have h1 := (hW.2.2.1.2 1 (E 1, .byte) rfl).2
  have h8 := (hW.2.2.1.2 8 (E 8, .short) rfl).2
  rcases (show so = 0 ∨ so = 1 ∨ so = 2 by omega) with e | e | e <;> subst e
  · exact h1
  · exact h8
  · exact h0
theorem xx_obq {z so k : Nat} {f : Nat → Int32} (hO : xx_ob χ z so k f) : ∃ q0 : Nat, (xx_cs E ad sk χ)[q0]? = some (z, .inl (E (cc_cls so), k, .inl f)) := by
  obtain ⟨q0, hq⟩ := xx_pl E ad sk hO.1
  rw [hO.2.1] at hq
  exact ⟨q0, hq⟩
theorem xx_obrecv {z so k : Nat} {f : Nat → Int32} (hO : xx_ob χ z so k f) (hW : xx_W D E A ad sk χ s H) : ∃ cell : Cell, H[z]? = some cell ∧ cell.vm.isStatics = false ∧ s.vm.findClass (xx_an so) = some cell.cls := by
  obtain ⟨q0, hq⟩ := xx_obq (E := E) (ad := ad) (sk := sk) hO
  exact ⟨_, hW.1 q0 _ hq, rfl, xx_anE hO.2.2 hW⟩
theorem xx_ocast {z so k : Nat} {f : Nat → Int32} (hx : p.tables.exec = Jvm.exec) (hb : c.code = cc) (hts : ∀ w ∈ lw_all, w.before args s = true) (hown : s.vm.findClass RX0 = some m.cls) (hO : xx_ob χ z so k f) (hlink : Cond.classLink RX0 index (xx_an so) ∈ lw_all) (hW : xx_W D E A ad sk χ s H) (hd : decode cc pc = .ok (.checkcast index, 3))
    (kk : W p l e R s m args below meth c H locs cells slots Q (F0 m (pc + 3) ls (.ref z :: rest))) : W p l e R s m args below meth c H locs cells slots Q (F0 m pc ls (.ref z :: rest)) := by
  obtain ⟨q0, hq⟩ := xx_obq (E := E) (ad := ad) (sk := sk) hO
  exact va_castA hx hb hown (hts _ hlink) hW.1 q0 hq (xx_anE hO.2.2 hW) hd kk
theorem xx_oins {z so k : Nat} {f : Nat → Int32} (t : Nat) (ht : t < 3) (hx : p.tables.exec = Jvm.exec) (hb : c.code = cc) (hts : ∀ w ∈ lw_all, w.before args s = true) (hown : s.vm.findClass RX0 = some m.cls) (hN : xx_N s) (hO : xx_ob χ z so k f) (hlink : Cond.classLink RX0 index (xx_an t) ∈ lw_all) (hW : xx_W D E A ad sk χ s H) (hd : decode cc pc = .ok (.instanceof index, 3))
    (kk : W p l e R s m args below meth c H locs cells slots Q (F0 m (pc + 3) ls (.int (if so = t then 1 else 0) :: rest))) : W p l e R s m args below meth c H locs cells slots Q (F0 m pc ls (.ref z :: rest)) := by
  by_cases h : so = t
  · rw [if_pos h] at kk
    subst h
    exact va_instE hx hb hown (hts _ hlink) (xx_obrecv hO hW) hd kk
  · rw [if_neg h] at kk
    exact va_instNo hx hb hown (hts _ hlink) (hN.2.1 _ (xx_an_nc so hO.2.2 t ht h)) (xx_obrecv hO hW) hd kk
theorem xx_oalen {z so k : Nat} {f : Nat → Int32} (hx : p.tables.exec = Jvm.exec) (hb : c.code = cc) (hO : xx_ob χ z so k f) (hW : xx_W D E A ad sk χ s H) (hd : decode cc pc = .ok (.arraylength, 1))
    (kk : W p l e R s m args below meth c H locs cells slots Q (F0 m (pc + 1) ls (.int (Int32.ofNat k) :: rest))) : W p l e R s m args below meth c H locs cells slots Q (F0 m pc ls (.ref z :: rest)) := by
  obtain ⟨q0, hq⟩ := xx_obq (E := E) (ad := ad) (sk := sk) hO
  have hso := hO.2.2
  rcases (show so = 0 ∨ so = 1 ∨ so = 2 by omega) with e | e | e <;> subst e
  · exact va_alen (ty := .byte) hx hb hW.2.2.1 hW.1 q0 1 hq rfl rfl hd kk
  · exact va_alen (ty := .short) hx hb hW.2.2.1 hW.1 q0 8 hq rfl rfl hd kk
  · exact va_alen (ty := .int) hx hb hW.2.2.1 hW.1 q0 0 hq rfl rfl hd kk
theorem xx_oald0 {z k : Nat} {f : Nat → Int32} {i : Int32} (hx : p.tables.exec = Jvm.exec) (hb : c.code = cc) (hO : xx_ob χ z 0 k f) (hin : vp_in i k) (hW : xx_W D E A ad sk χ s H) (hd : decode cc pc = .ok (.baload, 1))
    (kk : W p l e R s m args below meth c H locs cells slots Q (F0 m (pc + 1) ls (.int (f i.toNatClampNeg) :: rest))) : W p l e R s m args below meth c H locs cells slots Q (F0 m pc ls (.int i :: .ref z :: rest)) := by
  obtain ⟨q0, hq⟩ := xx_obq (E := E) (ad := ad) (sk := sk) hO
  exact va_bald hx hb hW.2.2.1 hW.1 q0 1 hq rfl hin hd kk
theorem xx_oald1 {z k : Nat} {f : Nat → Int32} {i : Int32} (hx : p.tables.exec = Jvm.exec) (hb : c.code = cc) (hO : xx_ob χ z 1 k f) (hin : vp_in i k) (hW : xx_W D E A ad sk χ s H) (hd : decode cc pc = .ok (.saload, 1))
    (kk : W p l e R s m args below meth c H locs cells slots Q (F0 m (pc + 1) ls (.int (f i.toNatClampNeg) :: rest))) : W p l e R s m args below meth c H locs cells slots Q (F0 m pc ls (.int i :: .ref z :: rest)) := by
  obtain ⟨q0, hq⟩ := xx_obq (E := E) (ad := ad) (sk := sk) hO
  exact va_sald hx hb hW.2.2.1 hW.1 q0 8 hq rfl hin hd kk
theorem xx_oald2 {z k : Nat} {f : Nat → Int32} {i : Int32} (hx : p.tables.exec = Jvm.exec) (hb : c.code = cc) (hO : xx_ob χ z 2 k f) (hin : vp_in i k) (hW : xx_W D E A ad sk χ s H) (hd : decode cc pc = .ok (.iaload, 1))
    (kk : W p l e R s m args below meth c H locs cells slots Q (F0 m (pc + 1) ls (.int (f i.toNatClampNeg) :: rest))) : W p l e R s m args below meth c H locs cells slots Q (F0 m pc ls (.int i :: .ref z :: rest)) := by
  obtain ⟨q0, hq⟩ := xx_obq (E := E) (ad := ad) (sk := sk) hO
  exact va_iald hx hb hW.2.2.1 hW.1 q0 0 hq rfl hin hd kk
/-- a copy between two of them -/
theorem xx_ocopy {z0 z1 so n0 n1 : Nat} {f g : Nat → Int32} {sp dp n : Int32} (hx : p.tables.exec = Jvm.exec) (hb : c.code = cc) (hml : c.maxLocals = ls.size) (hown : s.vm.findClass own = some m.cls) (hlink : (Cond.methodLink own index arraycopyName).before args s = true) (hnat : (Cond.native arraycopyName).before args s = true) (hstat : (Cond.static arraycopyName).before args s = true) (hini : (Cond.initialized "java/lang/System").before args s = true)
    (hW : xx_W D E A ad sk χ s H) (hS : va_S A H0 H locs) (h0 : xx_ob χ z0 so n0 f) (h1 : xx_ob χ z1 so n1 g) (b1 : ¬ sp < 0) (b2 : ¬ dp < 0) (b3 : ¬ n < 0) (b4 : sp.toNatClampNeg + n.toNatClampNeg ≤ n0) (b5 : dp.toNatClampNeg + n.toNatClampNeg ≤ n1) (hfit : ∀ i, i < n.toNatClampNeg → cc_fit so (f (sp.toNatClampNeg + i)))
    (hframes : 1 ≤ R.frames) (hlocals : (rest.map fun v => v.category).sum + (nativeFrameWords "java/lang/System" "arraycopy" 5 + 11) ≤ R.locals) (hd : decode cc pc = .ok (.invokestatic index, 3))
    (kk : ∀ (H1 : Heap) (locs1 : List Loc), xx_W D E A ad sk (xx_ps χ z1 (.inl (cc_cls so, n1, .inl (va_cpy f g sp.toNatClampNeg dp.toNatClampNeg n.toNatClampNeg)))) s H1 → va_S A H0 H1 locs1 → W p l e R s m args below meth c H1 locs1 cells slots Q (F0 m (pc + 3) ls rest)) :
    W p l e R s m args below meth c H locs cells slots Q (F0 m pc ls (.int n :: .int dp :: .ref z1 :: .int sp :: .ref z0 :: rest)) := by
  obtain ⟨q0, hq0⟩ := xx_obq (E := E) (ad := ad) (sk := sk) h0
  obtain ⟨q1, hq1'⟩ := xx_pl E ad sk h1.1
  have hset : (xx_cs E ad sk χ).set q1 (z1, .inl (E (cc_cls so), n1, .inl (va_cpy f g sp.toNatClampNeg dp.toNatClampNeg n.toNatClampNeg))) = xx_cs E ad sk (xx_ps χ z1 (.inl (cc_cls so, n1, .inl (va_cpy f g sp.toNatClampNeg dp.toNatClampNeg n.toNatClampNeg)))) := xx_pl_set E ad sk (e := .inl (cc_cls so, n1, .inl (va_cpy f g sp.toNatClampNeg dp.toNatClampNeg n.toNatClampNeg))) hW.2.1 h1.1 hq1'
  have hq1 : (xx_cs E ad sk χ)[q1]? = some (z1, .inl (E (cc_cls so), n1, .inl g)) := by
    rw [h1.2.1] at hq1'
    exact hq1'
  have kk' : ∀ (H1 : Heap) (locs1 : List Loc), va_P D xx_cl ((xx_cs E ad sk χ).set q1 (z1, .inl (E (cc_cls so), n1, .inl (va_cpy f g sp.toNatClampNeg dp.toNatClampNeg n.toNatClampNeg)))) H1 → va_D A ((xx_cs E ad sk χ).set q1 (z1, .inl (E (cc_cls so), n1, .inl (va_cpy f g sp.toNatClampNeg dp.toNatClampNeg n.toNatClampNeg)))) → va_S A H0 H1 locs1 → W p l e R s m args below meth c H1 locs1 cells slots Q (F0 m (pc + 3) ls rest) := by
    intro H1 locs1 hP hD hS1
    rw [hset] at hP hD
    exact kk H1 locs1 ⟨hP, hD, hW.2.2⟩ hS1
  have hso := h0.2.2
  rcases (show so = 0 ∨ so = 1 ∨ so = 2 by omega) with e | e | e <;> subst e
  · exact va_copyi (ty := .byte) hx hb hml hown hlink hnat hstat hini hW.2.2.1 hW.1 hW.2.1 hS q0 q1 1 1 hq0 hq1 rfl rfl rfl b1 b2 b3 b4 b5 hfit hframes hlocals hd kk'
  · exact va_copyi (ty := .short) hx hb hml hown hlink hnat hstat hini hW.2.2.1 hW.1 hW.2.1 hS q0 q1 8 8 hq0 hq1 rfl rfl rfl b1 b2 b3 b4 b5 hfit hframes hlocals hd kk'
  · exact va_copyi (ty := .int) hx hb hml hown hlink hnat hstat hini hW.2.2.1 hW.1 hW.2.1 hS q0 q1 0 0 hq0 hq1 rfl rfl rfl b1 b2 b3 b4 b5 hfit hframes hlocals hd kk'
/-- the row of a sheet -/
theorem xx_getS {i : Int32} (hx : p.tables.exec = Jvm.exec) (hb : c.code = cc) (hts : ∀ w ∈ lw_all, w.before args s = true) (hown : s.vm.findClass RX0 = some m.cls) (hN : xx_N s) (hW : xx_W D E A ad sk χ s H) (hin : vp_in i 4) (hd : decode cc pc = .ok (.getfield 499, 3))
    (k0 : xx_r χ (39 + i.toNatClampNeg) 0 = none → W p l e R s m args below meth c H locs cells slots Q (F0 m (pc + 3) ls (.null :: rest)))
    (k1 : ∀ z : Nat, xx_r χ (39 + i.toNatClampNeg) 0 = some z → W p l e R s m args below meth c H locs cells slots Q (F0 m (pc + 3) ls (.ref z :: rest))) :
    W p l e R s m args below meth c H locs cells slots Q (F0 m pc ls (.ref (ad (39 + i.toNatClampNeg)) :: rest)) := by
  have hlt : i.toNatClampNeg < 4 := Nat.not_le.mp fun q => hin (Or.inr q)
  refine va_getN (C := RX2) (T := TX2) (N := 1) (ci := 2) (v := va_rf (xx_r χ (39 + i.toNatClampNeg) 0)) (fs := [va_rf (xx_r χ (39 + i.toNatClampNeg) 0)]) hx hb hts in_X2 hown hW.2.2.1 hW.1 (39 + i.toNatClampNeg) (by rw [xx_cs_at E ad sk χ (by omega), xx_c_sh E ad sk χ (by omega) (by omega)]) rfl 0 (by decide) (va_Nw.use rfl hN.1.1) (fun _ h9 => h9) rfl hd ?_
  cases hr : xx_r χ (39 + i.toNatClampNeg) 0 with
  | none => exact k0 hr
  | some z => exact k1 z hr
theorem xx_aSV {k n1 : Nat} {Q1 : xx_S → Prop} (S : CallFix p m c cc nL s args Ts own) (hA : xx_A sk A s)
    (hM : Met l y ws rm (va_Pc As (fun U => xx_V D E A ad sk σ U U.heap)) (va_Qv Q1 (fun u t => xx_W D E A ad sk u t t.heap) A) n1 (64 * n1) A) (cw : CallB R s args own index y bytes maxL ret ws rm n1 (64 * n1) n ∧ (Cond.static y).before args s = true)
    (hW : xx_W D E A ad sk σ s H) (hS : va_S A s.heap H locs) (hn : As.length = n) (hsize : ls.size = nL) (hst : st = As.reverse ++ rest)
    (hw8 : (rest.map fun v => v.category).sum ≤ 8) (hd : decode cc pc = .ok (.invokestatic index, 3)) (hf : k + n1 ≤ R.cells ∧ 64 * (k + n1) ≤ R.slots)
    (kk : ∀ (u1 : xx_S) (H1 : Heap) (locs1 : List Loc), Q1 u1 → xx_W D E A ad sk u1 s H1 → va_S A s.heap H1 locs1 → W p l e R s m args below meth c H1 locs1 (k + n1) (64 * (k + n1)) Q (F0 m (pc + 3) ls rest)) :
    W p l e R s m args below meth c H locs k (64 * k) Q (F0 m pc ls st) := by
  rw [xx_lk] at hf
  refine va_callv (va_runS (As := As) (rest := rest) S hM cw (gg_preS (W0 := fun s H => xx_V D E A ad sk σ s H) (xx_mv0 D E A ad sk σ) (xx_toV hW hA hS)) rfl hn hsize hst (lv_room hw8) hd hf) hS (fun q _ h => h) (fun q h => h) (fun u1 t H1 locs1 ht hvm hq hB hz hk hS1 => ?_)
  rw [ht] at hB
  rw [← xx_lk]
  exact kk u1 H1 locs1 hq (xx_mv D E A ad sk u1 t s H1 hvm.symm hB) hS1
end XR3
section XR3U
variable {p : Program} {l : Launch} {e : Env} {R : Room} {s : State} {m : MethodId} {args : Array Value} {below : List Frame} {meth : Method} {c : Code} {H : Heap} {locs : List Loc} {cells slots : Nat} {Q : State → Prop}
variable {cc bytes : ByteArray} {pc nL maxL mc ms n index : Nat} {ls : Array Slot} {rest st : List Value} {ret : Option FieldType} {ws : List Cond} {rm : Room} {Ts : List Cond} {own C owner : String} {x y : MethodName} {b : Addr} {As : List Value} {cC : ClassId}
theorem gg_UQ {T : Type} {W0 : State → Heap → Prop} {W1 : T → State → Heap → Prop} (hmv0 : gg_Mv0 W0) (hmv : gg_Mv W1) {A : Addr → Prop} {H0 : Heap} {Q1 : Option Nat → T → Prop} (S : CallFix p m c cc nL s args Ts own)
    (hM : Met l y ws rm (va_Pc (.ref b :: As) (fun U => W0 U U.heap)) (va_Qq Q1 (fun u t => W1 u t t.heap) A) mc ms A) (cw : va_CU R s args own C owner index x y bytes maxL ret ws rm mc ms n)
    (hW : W0 s H) (hrecv : ∃ cell : Cell, H[b]? = some cell ∧ cell.vm.isStatics = false ∧ s.vm.findClass C = some cell.cls) (hS : va_S A H0 H locs) (hn : As.length = n) (hsize : ls.size = nL) (hst : st = As.reverse ++ .ref b :: rest)
    (hw8 : (rest.map fun v => v.category).sum ≤ 8) (hd : decode cc pc = .ok (.invokevirtual index, 3)) (hf : cells + mc ≤ R.cells ∧ slots + ms ≤ R.slots)
    (kk : ∀ (r : Option Nat) (u1 : T) (H1 : Heap) (locs1 : List Loc), Q1 r u1 → W1 u1 s H1 → va_S A H0 H1 locs1 → W p l e R s m args below meth c H1 locs1 (cells + mc) (slots + ms) Q (F0 m (pc + 3) ls (va_rf r :: rest))) :
    W p l e R s m args below meth c H locs cells slots Q (F0 m pc ls st) := by
  refine va_callq (va_runU (As := As) (rest := rest) S hM cw (gg_preV hmv0 hW hrecv) rfl hn hsize hst (lv_room hw8) hd hf) hS (fun q _ h => h) (fun q h => h) (fun r u1 t H1 locs1 ht hvm hq hB hz hk hS1 => kk r u1 H1 locs1 hq ?_ hS1)
  rw [ht] at hB
  exact hmv u1 t s H1 hvm.symm hB
end XR3U
