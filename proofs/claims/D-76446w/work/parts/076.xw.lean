theorem cd_X0_triesOf : yX0_triesOf.cls = RX0 ∧ yX0_triesOf.cls ≠ "java/lang/invoke/MethodHandle" ∧ yX0_triesOf.cls ≠ "java/lang/invoke/VarHandle" ∧ (parseMethodDescriptor yX0_triesOf.desc).map (fun d => d.parameters.length) = some 3 := by decide +kernel
/-! GleanersForGaps.triesOf(III)I -/
def xxw_triesOf_57  (Q : Int32 → xx_S → Prop)  (s0 : Int32) (σ : xx_S) : Prop :=
    (xxw_laysBack (0 : Int32) σ (fun σ6 => Q s0 σ6))
def xxw_triesOf  (a1 : Int32) (a2 : Int32) (a3 : Int32) (σ : xx_S) (Q : Int32 → xx_S → Prop) : Prop :=
    (xxw_keeps (0 : Int32) σ (fun σ1 => (xxw_gleans a1 a2 σ1 (fun r3 σ2 => (((a3 = 0) → xxw_triesOf_57 Q r3 σ2) ∧ (¬ (a3 = 0) → (((a3 = (1 : Int32)) → (xxw_gapsOf a2 σ2 (fun r11 σ10 => xxw_triesOf_57 Q r11 σ10))) ∧ (¬ (a3 = (1 : Int32)) → (((a3 = (2 : Int32)) → vp_in a1 5 ∧ ∃ y7 : Nat, xx_r σ2 43 a1.toNatClampNeg = some y7 ∧ ∃ (k8 : Nat) (nk8 ak8 : Int32), xx_gl σ2 y7 k8 nk8 ak8 ∧ xxw_triesOf_57 Q ak8 σ2) ∧ (¬ (a3 = (2 : Int32)) → (xxw_greatest a2 σ2 (fun r5 σ4 => xxw_triesOf_57 Q r5 σ4))))))))))))
abbrev xxr_triesOf : Room := { frames := 206, cells := 0, slots := 0, locals := 6102 }
set_option maxHeartbeats 4000000 in
set_option maxRecDepth 100000 in
theorem xxk_triesOf_57 {p : Program} {l : Launch} {e : Env} {s : State} {m : MethodId} {args : Array Value} {below : List Frame} {meth : Method} {c : Code} {D : va_G} {E : Nat → ClassId} {A : Nat → Prop} {ad sk : Nat → Nat} {Q : Int32 → xx_S → Prop}   (C0 : gg_C p s m args meth c RX0 cX0_triesOf 7 (some .int)) (hA : xx_A sk A s) :
    ∀ (s0 : Int32) (σ : xx_S) (H : Heap) (locs : List Loc) (ls : Array Slot), xxw_triesOf_57 Q s0 σ → xx_W D E A ad sk σ s H → va_S A s.heap H locs → lv_has ls 7 [(0, .ref (ad 0))] → W p l e xxr_triesOf s m args below meth c H locs 0 0 (MQ below (va_Qi Q (fun u t => xx_W D E A ad sk u t t.heap) A) args s 0 0 A) (F0 m 57 ls [.int s0]) := by
  obtain ⟨hx, hb, hml, hown, hts, hr, hlocks⟩ := id C0
  intro s0 σ H locs ls hw hW hS hl
  unfold xxw_triesOf_57 at hw
  refine lv_istore (lv' := [(5, .int s0), (0, .ref (ad 0))]) hx hb dX0_triesOf_57 hl (by decide) rfl (fun ls hl => ?_)
  refine lv_aload_n hx hb dX0_triesOf_59 rfl (lv_at hl 1 rfl) ?_
  refine lv_iconst (v := (0 : Int32)) hx hb dX0_triesOf_60 (by decide) ?_
  refine xx_VV ⟨hx, hb, hml, hown, hts⟩ hA (xxt_laysBack l _ _ hw) (cwV 1 hts (lw_V q973 q975 qs42 q103 q976) rfl rfl rfl cd_X0_laysBack ⟨Nat.le_of_ble_eq_true rfl, Nat.le_of_ble_eq_true rfl⟩) hW (xx_recv hW) hS rfl hl.1 rfl (Nat.le_of_ble_eq_true rfl) dX0_triesOf_61 (fun σ6 H locs hw hW hS => ?_)
  refine lv_iload hx hb dX0_triesOf_64 (lv_at hl 0 rfl) ?_
  exact gg_iret (xx_mv D E A ad sk) C0 hW hS hw dX0_triesOf_66
set_option maxHeartbeats 4000000 in
set_option maxRecDepth 100000 in
theorem xxt_triesOf (l : Launch) {D : va_G} {E : Nat → ClassId} {A : Nat → Prop} {ad sk : Nat → Nat}  (a1 : Int32) (a2 : Int32) (a3 : Int32) (σ : xx_S) {Q : Int32 → xx_S → Prop} (hw : xxw_triesOf a1 a2 a3 σ Q) :
    Met l yX0_triesOf (wsW_ yX0_triesOf cX0_triesOf 7 (some .int) [(5, 59, 67, 0), (67, 69, 67, 0)]) xxr_triesOf (va_Pc [.ref (ad 0), .int a1, .int a2, .int a3] (fun U => xx_V D E A ad sk σ U U.heap)) (va_Qi Q (fun u t => xx_W D E A ad sk u t t.heap) A) 0 0 A := by
  refine gg_entryW (W0 := fun s H => xx_V D E A ad sk σ s H) (by decide) (Nat.le_of_ble_eq_true rfl) ?_
  intro p e s m args below meth c C0 hV ls hl
  have C0 : gg_C p s m args meth c RX0 cX0_triesOf 7 (some .int) := C0
  obtain ⟨hx, hb, hml, hown, hts, hr, hlocks⟩ := id C0
  have hl : lv_has ls 7 [(0, .ref (ad 0)), (1, .int a1), (2, .int a2), (3, .int a3)] := hl
  have hS : va_S A s.heap s.heap [] := va_S.rf
  have hA : xx_A sk A s := hV.2
  have hW : xx_W D E A ad sk σ s s.heap := hV.1
  unfold xxw_triesOf at hw
  refine lv_aload_n hx hb dX0_triesOf_0 rfl (lv_at hl 0 rfl) ?_
  refine lv_iconst (v := (0 : Int32)) hx hb dX0_triesOf_1 (by decide) ?_
  refine xx_VV ⟨hx, hb, hml, hown, hts⟩ hA (xxt_keeps l _ _ hw) (cwV 1 hts (lw_V q966 q968 qs41 q103 q969) rfl rfl rfl cd_X0_keeps ⟨Nat.le_of_ble_eq_true rfl, Nat.le_of_ble_eq_true rfl⟩) hW (xx_recv hW) hS rfl hl.1 rfl (Nat.le_of_ble_eq_true rfl) dX0_triesOf_2 (fun σ1 H locs hw hW hS => ?_)
  refine lv_aload_n hx hb dX0_triesOf_5 rfl (lv_at hl 0 rfl) ?_
  refine lv_iload_n hx hb dX0_triesOf_6 rfl (lv_at hl 1 rfl) ?_
  refine lv_iload_n hx hb dX0_triesOf_7 rfl (lv_at hl 2 rfl) ?_
  refine xx_VI ⟨hx, hb, hml, hown, hts⟩ hA (xxt_gleans l _ _ _ hw) (cwV 2 hts (lw_V q926 q928 qs34 q103 q929) rfl rfl rfl cd_X0_gleans ⟨Nat.le_of_ble_eq_true rfl, Nat.le_of_ble_eq_true rfl⟩) hW (xx_recv hW) hS rfl hl.1 rfl (Nat.le_of_ble_eq_true rfl) dX0_triesOf_8 (fun r3 σ2 H locs hw hW hS => ?_)
  refine lv_istore (lv' := [(4, .int r3), (0, .ref (ad 0)), (1, .int a1), (2, .int a2), (3, .int a3)]) hx hb dX0_triesOf_11 hl (by decide) rfl (fun ls hl => ?_)
  refine lv_iload_n hx hb dX0_triesOf_13 rfl (lv_at hl 4 rfl) ?_
  refine lv_if_ne (tgt := 22) hx hb dX0_triesOf_14 (by decide) (fun c13 => ?_) (fun c13 => ?_)
  · have hw := hw.2 c13
    refine lv_iload_n hx hb dX0_triesOf_22 rfl (lv_at hl 4 rfl) ?_
    refine lv_iconst (v := (1 : Int32)) hx hb dX0_triesOf_23 (by decide) ?_
    refine lv_icmp_ne (tgt := 35) hx hb dX0_triesOf_24 (by decide) (fun c12 => ?_) (fun c12 => ?_)
    · have hw := hw.2 c12
      refine lv_iload_n hx hb dX0_triesOf_35 rfl (lv_at hl 4 rfl) ?_
      refine lv_iconst (v := (2 : Int32)) hx hb dX0_triesOf_36 (by decide) ?_
      refine lv_icmp_ne (tgt := 52) hx hb dX0_triesOf_37 (by decide) (fun c9 => ?_) (fun c9 => ?_)
      · have hw := hw.2 c9
        refine lv_aload_n hx hb dX0_triesOf_52 rfl (lv_at hl 1 rfl) ?_
        refine lv_iload_n hx hb dX0_triesOf_53 rfl (lv_at hl 3 rfl) ?_
        refine xx_VI ⟨hx, hb, hml, hown, hts⟩ hA (xxt_greatest l _ _ hw) (cwV 1 hts (lw_V q269 q271 qs6 q103 q272) rfl rfl rfl cd_X0_greatest ⟨Nat.le_of_ble_eq_true rfl, Nat.le_of_ble_eq_true rfl⟩) hW (xx_recv hW) hS rfl hl.1 rfl (Nat.le_of_ble_eq_true rfl) dX0_triesOf_54 (fun r5 σ4 H locs hw hW hS => ?_)
        exact xxk_triesOf_57  C0 hA  r5 σ4 _ _ _ hw hW hS (lv_sub hl [1] rfl)
      · have hw := hw.1 c9
        refine lv_aload_n hx hb dX0_triesOf_40 rfl (lv_at hl 1 rfl) ?_
        refine xx_getr hx hb hts hown hW 0 43 (by decide) q744 dX0_triesOf_41 ?_
        refine lv_iload_n hx hb dX0_triesOf_44 rfl (lv_at hl 2 rfl) ?_
        obtain ⟨hin, y7, hy, hw⟩ := hw
        refine xx_aldF hx hb hW hin hy dX0_triesOf_45 ?_
        obtain ⟨k8, nk8, ak8, hgl, hw⟩ := hw
        refine xx_gla hx hb hts hown hW hgl q168 (fun _ h9 => h9) dX0_triesOf_46 ?_
        refine lv_goto (tgt := 57) hx hb dX0_triesOf_49 (by decide) ?_
        exact xxk_triesOf_57  C0 hA  ak8 σ2 _ _ _ hw hW hS (lv_sub hl [1] rfl)
    · have hw := hw.1 c12
      refine lv_aload_n hx hb dX0_triesOf_27 rfl (lv_at hl 1 rfl) ?_
      refine lv_iload_n hx hb dX0_triesOf_28 rfl (lv_at hl 3 rfl) ?_
      refine xx_VI ⟨hx, hb, hml, hown, hts⟩ hA (xxt_gapsOf l _ _ hw) (cwV 1 hts (lw_V q225 q227 qs0 q103 q229) rfl rfl rfl cd_X0_gapsOf ⟨Nat.le_of_ble_eq_true rfl, Nat.le_of_ble_eq_true rfl⟩) hW (xx_recv hW) hS rfl hl.1 rfl (Nat.le_of_ble_eq_true rfl) dX0_triesOf_29 (fun r11 σ10 H locs hw hW hS => ?_)
      refine lv_goto (tgt := 57) hx hb dX0_triesOf_32 (by decide) ?_
      exact xxk_triesOf_57  C0 hA  r11 σ10 _ _ _ hw hW hS (lv_sub hl [1] rfl)
  · have hw := hw.1 c13
    refine lv_iload hx hb dX0_triesOf_17 (lv_at hl 0 rfl) ?_
    refine lv_goto (tgt := 57) hx hb dX0_triesOf_19 (by decide) ?_
    exact xxk_triesOf_57  C0 hA  r3 σ2 _ _ _ hw hW hS (lv_sub hl [1] rfl)
theorem cd_X0_tries : yX0_tries.cls = RX0 ∧ yX0_tries.cls ≠ "java/lang/invoke/MethodHandle" ∧ yX0_tries.cls ≠ "java/lang/invoke/VarHandle" ∧ (parseMethodDescriptor yX0_tries.desc).map (fun d => d.parameters.length) = some 3 := by decide +kernel
/-! GleanersForGaps.tries(III)I -/
def xxw_tries  (a1 : Int32) (a2 : Int32) (a3 : Int32) (σ : xx_S) (Q : Int32 → xx_S → Prop) : Prop :=
    (xxw_isOne a1 σ (fun r2 σ1 => (((r2 = 0) → Q (-100 : Int32) σ1) ∧ (¬ (r2 = 0) → (xxw_isRow a2 σ1 (fun r4 σ3 => (((r4 = 0) → Q (-100 : Int32) σ3) ∧ (¬ (r4 = 0) → (xxw_in ((a3).toInt64) (0 : Int64) (3 : Int64) σ3 (fun r6 σ5 => (((r6 = 0) → Q (-100 : Int32) σ5) ∧ (¬ (r6 = 0) → (xxw_triesOf a1 a2 a3 σ5 (fun r8 σ7 => Q r8 σ7))))))))))))))
abbrev xxr_tries : Room := { frames := 207, cells := 0, slots := 0, locals := 6128 }
set_option maxHeartbeats 4000000 in
set_option maxRecDepth 100000 in
theorem xxt_tries (l : Launch) {D : va_G} {E : Nat → ClassId} {A : Nat → Prop} {ad sk : Nat → Nat}  (a1 : Int32) (a2 : Int32) (a3 : Int32) (σ : xx_S) {Q : Int32 → xx_S → Prop} (hw : xxw_tries a1 a2 a3 σ Q) :
    Met l yX0_tries (ws_ yX0_tries cX0_tries 4 (some .int)) xxr_tries (va_Pc [.ref (ad 0), .int a1, .int a2, .int a3] (fun U => xx_V D E A ad sk σ U U.heap)) (va_Qi Q (fun u t => xx_W D E A ad sk u t t.heap) A) 0 0 A := by
  refine gg_entry (W0 := fun s H => xx_V D E A ad sk σ s H) (by decide) (Nat.le_of_ble_eq_true rfl) ?_
  intro p e s m args below meth c C0 hV ls hl
  have C0 : gg_C p s m args meth c RX0 cX0_tries 4 (some .int) := C0
  obtain ⟨hx, hb, hml, hown, hts, hr, hlocks⟩ := id C0
  have hl : lv_has ls 4 [(0, .ref (ad 0)), (1, .int a1), (2, .int a2), (3, .int a3)] := hl
  have hS : va_S A s.heap s.heap [] := va_S.rf
  have hA : xx_A sk A s := hV.2
  have hW : xx_W D E A ad sk σ s s.heap := hV.1
  unfold xxw_tries at hw
  refine lv_aload_n hx hb dX0_tries_0 rfl (lv_at hl 0 rfl) ?_
  refine lv_iload_n hx hb dX0_tries_1 rfl (lv_at hl 1 rfl) ?_
  refine xx_VI ⟨hx, hb, hml, hown, hts⟩ hA (xxt_isOne l _ _ hw) (cwV 1 hts (lw_V q245 q247 qs2 q103 q248) rfl rfl rfl cd_X0_isOne ⟨Nat.le_of_ble_eq_true rfl, Nat.le_of_ble_eq_true rfl⟩) hW (xx_recv hW) hS rfl hl.1 rfl (Nat.le_of_ble_eq_true rfl) dX0_tries_2 (fun r2 σ1 H locs hw hW hS => ?_)
  obtain ⟨hz_r2, hw⟩ := hw
  refine lv_if_eq (tgt := 37) hx hb dX0_tries_5 (by decide) (fun c11 => ?_) (fun c11 => ?_)
  · have hw := hw.1 c11
    refine lv_bipush (v := (-100 : Int32)) hx hb dX0_tries_37 (by decide) ?_
    exact gg_iret (xx_mv D E A ad sk) C0 hW hS hw dX0_tries_39
  · have hw := hw.2 c11
    refine lv_iload_n hx hb dX0_tries_8 rfl (lv_at hl 2 rfl) ?_
    refine xx_SI ⟨hx, hb, hml, hown, hts⟩ hA (xxt_isRow l _ _ hw) (va_cwS 1 hts (lw_S q220 q221 q103 q222) rfl rfl rfl cd_X0_isRow.2 ⟨Nat.le_of_ble_eq_true rfl, Nat.le_of_ble_eq_true rfl⟩) hW hS rfl hl.1 rfl (Nat.le_of_ble_eq_true rfl) dX0_tries_9 (fun r4 σ3 H locs hw hW hS => ?_)
    obtain ⟨hz_r4, hw⟩ := hw
    refine lv_if_eq (tgt := 37) hx hb dX0_tries_12 (by decide) (fun c10 => ?_) (fun c10 => ?_)
    · have hw := hw.1 c10
      refine lv_bipush (v := (-100 : Int32)) hx hb dX0_tries_37 (by decide) ?_
      exact gg_iret (xx_mv D E A ad sk) C0 hW hS hw dX0_tries_39
    · have hw := hw.2 c10
      refine lv_iload_n hx hb dX0_tries_15 rfl (lv_at hl 3 rfl) ?_
      refine lv_i2l (v := (a3).toInt64) hx hb dX0_tries_16 rfl ?_
      refine lv_lconst (v := (0 : Int64)) hx hb dX0_tries_17 (by decide) ?_
      refine lv_ldc2 (own := RX0) (v := (3 : Int64)) hx hb hown (hts _ q223) dX0_tries_18 ?_
      refine xx_SI ⟨hx, hb, hml, hown, hts⟩ hA (xxt_in l _ _ _ _ hw) (va_cwS 3 hts (lw_S q139 q140 q103 q141) rfl rfl rfl cd_X0_in.2 ⟨Nat.le_of_ble_eq_true rfl, Nat.le_of_ble_eq_true rfl⟩) hW hS rfl hl.1 rfl (Nat.le_of_ble_eq_true rfl) dX0_tries_21 (fun r6 σ5 H locs hw hW hS => ?_)
      obtain ⟨hz_r6, hw⟩ := hw
      refine lv_if_eq (tgt := 37) hx hb dX0_tries_24 (by decide) (fun c9 => ?_) (fun c9 => ?_)
      · have hw := hw.1 c9
        refine lv_bipush (v := (-100 : Int32)) hx hb dX0_tries_37 (by decide) ?_
        exact gg_iret (xx_mv D E A ad sk) C0 hW hS hw dX0_tries_39
      · have hw := hw.2 c9
        refine lv_aload_n hx hb dX0_tries_27 rfl (lv_at hl 0 rfl) ?_
        refine lv_iload_n hx hb dX0_tries_28 rfl (lv_at hl 1 rfl) ?_
        refine lv_iload_n hx hb dX0_tries_29 rfl (lv_at hl 2 rfl) ?_
        refine lv_iload_n hx hb dX0_tries_30 rfl (lv_at hl 3 rfl) ?_
        refine xx_WI ⟨hx, hb, hml, hown, hts⟩ hA (xxt_triesOf l _ _ _ _ hw) (vx_cwVW (hh := [(5, 59, 67, 0), (67, 69, 67, 0)]) 3 hts (lw_VW q962 q964 qs40 q103 q965) rfl rfl rfl cd_X0_triesOf ⟨Nat.le_of_ble_eq_true rfl, Nat.le_of_ble_eq_true rfl⟩) hW (xx_recv hW) hS rfl hl.1 rfl (Nat.le_of_ble_eq_true rfl) dX0_tries_31 (fun r8 σ7 H locs hw hW hS => ?_)
        refine lv_goto (tgt := 39) hx hb dX0_tries_34 (by decide) ?_
        exact gg_iret (xx_mv D E A ad sk) C0 hW hS hw dX0_tries_39
theorem cd_X0_allGlean : yX0_allGlean.cls = RX0 ∧ yX0_allGlean.cls ≠ "java/lang/invoke/MethodHandle" ∧ yX0_allGlean.cls ≠ "java/lang/invoke/VarHandle" ∧ (parseMethodDescriptor yX0_allGlean.desc).map (fun d => d.parameters.length) = some 1 := by decide +kernel
/-! GleanersForGaps.allGlean(I)V -/
def xxw_allGlean_2  (Q : xx_S → Prop)  : Nat → Int32 → Int32 → xx_S → Prop
  | 0, _, _, _ => False
  | n + 1, x1, x2, σ =>
    ((((xx_g σ 0 1) ≤ x2) → Q σ) ∧ (¬ ((xx_g σ 0 1) ≤ x2) → (xxw_gleans x2 x1 σ (fun r2 σ1 => xxw_allGlean_2 Q n x1 (x2 + (1 : Int32)) σ1))))
def xxw_allGlean  (a1 : Int32) (σ : xx_S) (Q : xx_S → Prop) : Prop :=
    ∃ k9, xxw_allGlean_2 Q k9 a1 (0 : Int32) σ
abbrev xxr_allGlean : Room := { frames := 206, cells := 0, slots := 0, locals := 6102 }
set_option maxHeartbeats 4000000 in
set_option maxRecDepth 100000 in
theorem xxk_allGlean_2 {p : Program} {l : Launch} {e : Env} {s : State} {m : MethodId} {args : Array Value} {below : List Frame} {meth : Method} {c : Code} {D : va_G} {E : Nat → ClassId} {A : Nat → Prop} {ad sk : Nat → Nat} {Q : xx_S → Prop}   (C0 : gg_C p s m args meth c RX0 cX0_allGlean 3 none) (hA : xx_A sk A s) :
    ∀ n : Nat, ∀ (x1 : Int32) (x2 : Int32) (σ : xx_S) (H : Heap) (locs : List Loc) (ls : Array Slot), xxw_allGlean_2 Q n x1 x2 σ → xx_W D E A ad sk σ s H → va_S A s.heap H locs → lv_has ls 3 [(0, .ref (ad 0)), (1, .int x1), (2, .int x2)] → W p l e xxr_allGlean s m args below meth c H locs 0 0 (MQ below (va_Qv Q (fun u t => xx_W D E A ad sk u t t.heap) A) args s 0 0 A) (F0 m 2 ls []) := by
  obtain ⟨hx, hb, hml, hown, hts, hr, hlocks⟩ := id C0
  intro n
  induction n with
  | zero =>
    intro x1 x2 σ H locs ls hw hW hS hl
    exact absurd hw (by unfold xxw_allGlean_2; exact id)
  | succ n ih =>
    intro x1 x2 σ H locs ls hw hW hS hl
    unfold xxw_allGlean_2 at hw
    refine lv_iload_n hx hb dX0_allGlean_2 rfl (lv_at hl 2 rfl) ?_
    refine lv_aload_n hx hb dX0_allGlean_3 rfl (lv_at hl 0 rfl) ?_
    refine xx_geti hx hb hts hown hW 1 (by decide) q745 dX0_allGlean_4 ?_
    refine lv_icmp_ge (tgt := 23) hx hb dX0_allGlean_7 (by decide) (fun c3 => ?_) (fun c3 => ?_)
    · have hw := hw.1 c3
      exact gg_vret (xx_mv D E A ad sk) C0 hW hS hw dX0_allGlean_23
    · have hw := hw.2 c3
      refine lv_aload_n hx hb dX0_allGlean_10 rfl (lv_at hl 0 rfl) ?_
      refine lv_iload_n hx hb dX0_allGlean_11 rfl (lv_at hl 2 rfl) ?_
      refine lv_iload_n hx hb dX0_allGlean_12 rfl (lv_at hl 1 rfl) ?_
      refine xx_VI ⟨hx, hb, hml, hown, hts⟩ hA (xxt_gleans l _ _ _ hw) (cwV 2 hts (lw_V q926 q928 qs34 q103 q929) rfl rfl rfl cd_X0_gleans ⟨Nat.le_of_ble_eq_true rfl, Nat.le_of_ble_eq_true rfl⟩) hW (xx_recv hW) hS rfl hl.1 rfl (Nat.le_of_ble_eq_true rfl) dX0_allGlean_13 (fun r2 σ1 H locs hw hW hS => ?_)
      refine lv_pop hx hb dX0_allGlean_16 rfl ?_
      refine lv_iinc (v := (x2 + (1 : Int32))) (lv' := [(2, .int (x2 + (1 : Int32))), (0, .ref (ad 0)), (1, .int x1)]) hx hb dX0_allGlean_17 hl (k := 2) rfl rfl (by decide) rfl (fun ls hl => ?_)
      refine lv_goto (tgt := 2) hx hb dX0_allGlean_20 (by decide) ?_
      exact ih x1 (x2 + (1 : Int32)) σ1 _ _ _ hw hW hS (lv_sub hl [1, 2, 0] rfl)
set_option maxHeartbeats 4000000 in
set_option maxRecDepth 100000 in
theorem xxt_allGlean (l : Launch) {D : va_G} {E : Nat → ClassId} {A : Nat → Prop} {ad sk : Nat → Nat}  (a1 : Int32) (σ : xx_S) {Q : xx_S → Prop} (hw : xxw_allGlean a1 σ Q) :
    Met l yX0_allGlean (ws_ yX0_allGlean cX0_allGlean 3 none) xxr_allGlean (va_Pc [.ref (ad 0), .int a1] (fun U => xx_V D E A ad sk σ U U.heap)) (va_Qv Q (fun u t => xx_W D E A ad sk u t t.heap) A) 0 0 A := by
  refine gg_entry (W0 := fun s H => xx_V D E A ad sk σ s H) (by decide) (Nat.le_of_ble_eq_true rfl) ?_
  intro p e s m args below meth c C0 hV ls hl
  have C0 : gg_C p s m args meth c RX0 cX0_allGlean 3 none := C0
  obtain ⟨hx, hb, hml, hown, hts, hr, hlocks⟩ := id C0
  have hl : lv_has ls 3 [(0, .ref (ad 0)), (1, .int a1)] := hl
  have hS : va_S A s.heap s.heap [] := va_S.rf
  have hA : xx_A sk A s := hV.2
  have hW : xx_W D E A ad sk σ s s.heap := hV.1
  unfold xxw_allGlean at hw
  refine lv_iconst (v := (0 : Int32)) hx hb dX0_allGlean_0 (by decide) ?_
  refine lv_istore_n (lv' := [(2, .int (0 : Int32)), (0, .ref (ad 0)), (1, .int a1)]) hx hb dX0_allGlean_1 rfl hl (by decide) rfl (fun ls hl => ?_)
  obtain ⟨n9, hw⟩ := hw
  exact xxk_allGlean_2  C0 hA  n9 a1 (0 : Int32) σ _ _ _ hw hW hS (lv_sub hl [1, 2, 0] rfl)
theorem cd_X0_nights : yX0_nights.cls = RX0 ∧ yX0_nights.cls ≠ "java/lang/invoke/MethodHandle" ∧ yX0_nights.cls ≠ "java/lang/invoke/VarHandle" ∧ (parseMethodDescriptor yX0_nights.desc).map (fun d => d.parameters.length) = some 4 := by decide +kernel
/-! GleanersForGaps.nights(IIII)I -/
def xxw_nights_92  (Q : Int32 → xx_S → Prop)  (s0 : Int32) (σ : xx_S) : Prop :=
    (xxw_laysBack (0 : Int32) σ (fun σ12 => Q s0 σ12))
def xxw_nights_49  (Q : Int32 → xx_S → Prop)  : Nat → Int32 → Int32 → Int32 → Int32 → Int32 → xx_S → Prop
  | 0, _, _, _, _, _, _ => False
  | n + 1, x1, x2, x3, x4, x5, σ =>
    (((x3 ≤ x5) → (((x4 = 0) → vp_in x1 5 ∧ ∃ y13 : Nat, xx_r σ 43 x1.toNatClampNeg = some y13 ∧ ∃ (k14 : Nat) (nk14 ak14 : Int32), xx_gl σ y13 k14 nk14 ak14 ∧ xxw_nights_92 Q ak14 σ) ∧ (¬ (x4 = 0) → (xxw_gapsOf x2 σ (fun r11 σ10 => xxw_nights_92 Q r11 σ10))))) ∧ (¬ (x3 ≤ x5) → (xxw_allGlean x2 σ (fun σ16 => (xxw_passes σ16 (fun σ17 => xxw_nights_49 Q n x1 x2 x3 x4 (x5 + (1 : Int32)) σ17))))))
def xxw_nights  (a1 : Int32) (a2 : Int32) (a3 : Int32) (a4 : Int32) (σ : xx_S) (Q : Int32 → xx_S → Prop) : Prop :=
    (xxw_isOne a1 σ (fun r2 σ1 => (((r2 = 0) → Q (-2 : Int32) σ1) ∧ (¬ (r2 = 0) → (xxw_isRow a2 σ1 (fun r4 σ3 => (((r4 = 0) → Q (-2 : Int32) σ3) ∧ (¬ (r4 = 0) → (xxw_in ((a3).toInt64) (0 : Int64) (20 : Int64) σ3 (fun r6 σ5 => (((r6 = 0) → Q (-2 : Int32) σ5) ∧ (¬ (r6 = 0) → (xxw_in ((a4).toInt64) (0 : Int64) (1 : Int64) σ5 (fun r8 σ7 => (((r8 = 0) → Q (-2 : Int32) σ7) ∧ (¬ (r8 = 0) → (xxw_keeps (0 : Int32) σ7 (fun σ9 => ∃ k9, xxw_nights_49 Q k9 a1 a2 a3 a4 (0 : Int32) σ9))))))))))))))))))
abbrev xxr_nights : Room := { frames := 207, cells := 0, slots := 0, locals := 6124 }
set_option maxHeartbeats 4000000 in
set_option maxRecDepth 100000 in
theorem xxk_nights_92 {p : Program} {l : Launch} {e : Env} {s : State} {m : MethodId} {args : Array Value} {below : List Frame} {meth : Method} {c : Code} {D : va_G} {E : Nat → ClassId} {A : Nat → Prop} {ad sk : Nat → Nat} {Q : Int32 → xx_S → Prop}   (C0 : gg_C p s m args meth c RX0 cX0_nights 7 (some .int)) (hA : xx_A sk A s) :
    ∀ (s0 : Int32) (σ : xx_S) (H : Heap) (locs : List Loc) (ls : Array Slot), xxw_nights_92 Q s0 σ → xx_W D E A ad sk σ s H → va_S A s.heap H locs → lv_has ls 7 [(0, .ref (ad 0))] → W p l e xxr_nights s m args below meth c H locs 0 0 (MQ below (va_Qi Q (fun u t => xx_W D E A ad sk u t t.heap) A) args s 0 0 A) (F0 m 92 ls [.int s0]) := by
  obtain ⟨hx, hb, hml, hown, hts, hr, hlocks⟩ := id C0
  intro s0 σ H locs ls hw hW hS hl
  unfold xxw_nights_92 at hw
  refine lv_istore (lv' := [(5, .int s0), (0, .ref (ad 0))]) hx hb dX0_nights_92 hl (by decide) rfl (fun ls hl => ?_)
  refine lv_aload_n hx hb dX0_nights_94 rfl (lv_at hl 1 rfl) ?_
  refine lv_iconst (v := (0 : Int32)) hx hb dX0_nights_95 (by decide) ?_
  refine xx_VV ⟨hx, hb, hml, hown, hts⟩ hA (xxt_laysBack l _ _ hw) (cwV 1 hts (lw_V q973 q975 qs42 q103 q976) rfl rfl rfl cd_X0_laysBack ⟨Nat.le_of_ble_eq_true rfl, Nat.le_of_ble_eq_true rfl⟩) hW (xx_recv hW) hS rfl hl.1 rfl (Nat.le_of_ble_eq_true rfl) dX0_nights_96 (fun σ12 H locs hw hW hS => ?_)
  refine lv_iload hx hb dX0_nights_99 (lv_at hl 0 rfl) ?_
  exact gg_iret (xx_mv D E A ad sk) C0 hW hS hw dX0_nights_101
set_option maxHeartbeats 4000000 in
set_option maxRecDepth 100000 in
theorem xxk_nights_49 {p : Program} {l : Launch} {e : Env} {s : State} {m : MethodId} {args : Array Value} {below : List Frame} {meth : Method} {c : Code} {D : va_G} {E : Nat → ClassId} {A : Nat → Prop} {ad sk : Nat → Nat} {Q : Int32 → xx_S → Prop}   (C0 : gg_C p s m args meth c RX0 cX0_nights 7 (some .int)) (hA : xx_A sk A s) :
    ∀ n : Nat, ∀ (x1 : Int32) (x2 : Int32) (x3 : Int32) (x4 : Int32) (x5 : Int32) (σ : xx_S) (H : Heap) (locs : List Loc) (ls : Array Slot), xxw_nights_49 Q n x1 x2 x3 x4 x5 σ → xx_W D E A ad sk σ s H → va_S A s.heap H locs → lv_has ls 7 [(0, .ref (ad 0)), (1, .int x1), (2, .int x2), (3, .int x3), (4, .int x4), (5, .int x5)] → W p l e xxr_nights s m args below meth c H locs 0 0 (MQ below (va_Qi Q (fun u t => xx_W D E A ad sk u t t.heap) A) args s 0 0 A) (F0 m 49 ls []) := by
  obtain ⟨hx, hb, hml, hown, hts, hr, hlocks⟩ := id C0
  intro n
  induction n with
  | zero =>
    intro x1 x2 x3 x4 x5 σ H locs ls hw hW hS hl
    exact absurd hw (by unfold xxw_nights_49; exact id)
  | succ n ih =>
    intro x1 x2 x3 x4 x5 σ H locs ls hw hW hS hl
    unfold xxw_nights_49 at hw
    refine lv_iload hx hb dX0_nights_49 (lv_at hl 5 rfl) ?_
    refine lv_iload_n hx hb dX0_nights_51 rfl (lv_at hl 3 rfl) ?_
    refine lv_icmp_ge (tgt := 70) hx hb dX0_nights_52 (by decide) (fun c18 => ?_) (fun c18 => ?_)
    · have hw := hw.1 c18
      refine lv_iload hx hb dX0_nights_70 (lv_at hl 4 rfl) ?_
      refine lv_if_ne (tgt := 87) hx hb dX0_nights_72 (by decide) (fun c15 => ?_) (fun c15 => ?_)
      · have hw := hw.2 c15
        refine lv_aload_n hx hb dX0_nights_87 rfl (lv_at hl 0 rfl) ?_
        refine lv_iload_n hx hb dX0_nights_88 rfl (lv_at hl 2 rfl) ?_
        refine xx_VI ⟨hx, hb, hml, hown, hts⟩ hA (xxt_gapsOf l _ _ hw) (cwV 1 hts (lw_V q225 q227 qs0 q103 q229) rfl rfl rfl cd_X0_gapsOf ⟨Nat.le_of_ble_eq_true rfl, Nat.le_of_ble_eq_true rfl⟩) hW (xx_recv hW) hS rfl hl.1 rfl (Nat.le_of_ble_eq_true rfl) dX0_nights_89 (fun r11 σ10 H locs hw hW hS => ?_)
        exact xxk_nights_92  C0 hA  r11 σ10 _ _ _ hw hW hS (lv_sub hl [0] rfl)
      · have hw := hw.1 c15
        refine lv_aload_n hx hb dX0_nights_75 rfl (lv_at hl 0 rfl) ?_
        refine xx_getr hx hb hts hown hW 0 43 (by decide) q744 dX0_nights_76 ?_
        refine lv_iload_n hx hb dX0_nights_79 rfl (lv_at hl 1 rfl) ?_
        obtain ⟨hin, y13, hy, hw⟩ := hw
        refine xx_aldF hx hb hW hin hy dX0_nights_80 ?_
        obtain ⟨k14, nk14, ak14, hgl, hw⟩ := hw
        refine xx_gla hx hb hts hown hW hgl q168 (fun _ h9 => h9) dX0_nights_81 ?_
        refine lv_goto (tgt := 92) hx hb dX0_nights_84 (by decide) ?_
        exact xxk_nights_92  C0 hA  ak14 σ _ _ _ hw hW hS (lv_sub hl [0] rfl)
    · have hw := hw.2 c18
      refine lv_aload_n hx hb dX0_nights_55 rfl (lv_at hl 0 rfl) ?_
      refine lv_iload_n hx hb dX0_nights_56 rfl (lv_at hl 2 rfl) ?_
      refine xx_VV ⟨hx, hb, hml, hown, hts⟩ hA (xxt_allGlean l _ _ hw) (cwV 1 hts (lw_V q982 q984 qs43 q103 q985) rfl rfl rfl cd_X0_allGlean ⟨Nat.le_of_ble_eq_true rfl, Nat.le_of_ble_eq_true rfl⟩) hW (xx_recv hW) hS rfl hl.1 rfl (Nat.le_of_ble_eq_true rfl) dX0_nights_57 (fun σ16 H locs hw hW hS => ?_)
      refine lv_aload_n hx hb dX0_nights_60 rfl (lv_at hl 0 rfl) ?_
      refine xx_VV ⟨hx, hb, hml, hown, hts⟩ hA (xxt_passes l _ hw) (cwV 0 hts (lw_V q950 q952 qs38 q103 q953) rfl rfl rfl cd_X0_passes ⟨Nat.le_of_ble_eq_true rfl, Nat.le_of_ble_eq_true rfl⟩) hW (xx_recv hW) hS rfl hl.1 rfl (Nat.le_of_ble_eq_true rfl) dX0_nights_61 (fun σ17 H locs hw hW hS => ?_)
      refine lv_iinc (v := (x5 + (1 : Int32))) (lv' := [(5, .int (x5 + (1 : Int32))), (0, .ref (ad 0)), (1, .int x1), (2, .int x2), (3, .int x3), (4, .int x4)]) hx hb dX0_nights_64 hl (k := 5) rfl rfl (by decide) rfl (fun ls hl => ?_)
      refine lv_goto (tgt := 49) hx hb dX0_nights_67 (by decide) ?_
      exact ih x1 x2 x3 x4 (x5 + (1 : Int32)) σ17 _ _ _ hw hW hS (lv_sub hl [1, 2, 3, 4, 5, 0] rfl)
set_option maxHeartbeats 4000000 in
set_option maxRecDepth 100000 in
theorem xxt_nights (l : Launch) {D : va_G} {E : Nat → ClassId} {A : Nat → Prop} {ad sk : Nat → Nat}  (a1 : Int32) (a2 : Int32) (a3 : Int32) (a4 : Int32) (σ : xx_S) {Q : Int32 → xx_S → Prop} (hw : xxw_nights a1 a2 a3 a4 σ Q) :
    Met l yX0_nights (wsW_ yX0_nights cX0_nights 7 (some .int) [(46, 94, 102, 0), (102, 104, 102, 0)]) xxr_nights (va_Pc [.ref (ad 0), .int a1, .int a2, .int a3, .int a4] (fun U => xx_V D E A ad sk σ U U.heap)) (va_Qi Q (fun u t => xx_W D E A ad sk u t t.heap) A) 0 0 A := by
  refine gg_entryW (W0 := fun s H => xx_V D E A ad sk σ s H) (by decide) (Nat.le_of_ble_eq_true rfl) ?_
  intro p e s m args below meth c C0 hV ls hl
  have C0 : gg_C p s m args meth c RX0 cX0_nights 7 (some .int) := C0
  obtain ⟨hx, hb, hml, hown, hts, hr, hlocks⟩ := id C0
  have hl : lv_has ls 7 [(0, .ref (ad 0)), (1, .int a1), (2, .int a2), (3, .int a3), (4, .int a4)] := hl
  have hS : va_S A s.heap s.heap [] := va_S.rf
  have hA : xx_A sk A s := hV.2
  have hW : xx_W D E A ad sk σ s s.heap := hV.1
  unfold xxw_nights at hw
  refine lv_aload_n hx hb dX0_nights_0 rfl (lv_at hl 0 rfl) ?_
  refine lv_iload_n hx hb dX0_nights_1 rfl (lv_at hl 1 rfl) ?_
  refine xx_VI ⟨hx, hb, hml, hown, hts⟩ hA (xxt_isOne l _ _ hw) (cwV 1 hts (lw_V q245 q247 qs2 q103 q248) rfl rfl rfl cd_X0_isOne ⟨Nat.le_of_ble_eq_true rfl, Nat.le_of_ble_eq_true rfl⟩) hW (xx_recv hW) hS rfl hl.1 rfl (Nat.le_of_ble_eq_true rfl) dX0_nights_2 (fun r2 σ1 H locs hw hW hS => ?_)
  obtain ⟨hz_r2, hw⟩ := hw
  refine lv_if_eq (tgt := 38) hx hb dX0_nights_5 (by decide) (fun c22 => ?_) (fun c22 => ?_)
  · have hw := hw.1 c22
    refine lv_bipush (v := (-2 : Int32)) hx hb dX0_nights_38 (by decide) ?_
    exact gg_iret (xx_mv D E A ad sk) C0 hW hS hw dX0_nights_40
  · have hw := hw.2 c22
    refine lv_iload_n hx hb dX0_nights_8 rfl (lv_at hl 2 rfl) ?_
    refine xx_SI ⟨hx, hb, hml, hown, hts⟩ hA (xxt_isRow l _ _ hw) (va_cwS 1 hts (lw_S q220 q221 q103 q222) rfl rfl rfl cd_X0_isRow.2 ⟨Nat.le_of_ble_eq_true rfl, Nat.le_of_ble_eq_true rfl⟩) hW hS rfl hl.1 rfl (Nat.le_of_ble_eq_true rfl) dX0_nights_9 (fun r4 σ3 H locs hw hW hS => ?_)
    obtain ⟨hz_r4, hw⟩ := hw
    refine lv_if_eq (tgt := 38) hx hb dX0_nights_12 (by decide) (fun c21 => ?_) (fun c21 => ?_)
    · have hw := hw.1 c21
      refine lv_bipush (v := (-2 : Int32)) hx hb dX0_nights_38 (by decide) ?_
      exact gg_iret (xx_mv D E A ad sk) C0 hW hS hw dX0_nights_40
    · have hw := hw.2 c21
      refine lv_iload_n hx hb dX0_nights_15 rfl (lv_at hl 3 rfl) ?_
      refine lv_i2l (v := (a3).toInt64) hx hb dX0_nights_16 rfl ?_
      refine lv_lconst (v := (0 : Int64)) hx hb dX0_nights_17 (by decide) ?_
      refine lv_ldc2 (own := RX0) (v := (20 : Int64)) hx hb hown (hts _ q981) dX0_nights_18 ?_
      refine xx_SI ⟨hx, hb, hml, hown, hts⟩ hA (xxt_in l _ _ _ _ hw) (va_cwS 3 hts (lw_S q139 q140 q103 q141) rfl rfl rfl cd_X0_in.2 ⟨Nat.le_of_ble_eq_true rfl, Nat.le_of_ble_eq_true rfl⟩) hW hS rfl hl.1 rfl (Nat.le_of_ble_eq_true rfl) dX0_nights_21 (fun r6 σ5 H locs hw hW hS => ?_)
      obtain ⟨hz_r6, hw⟩ := hw
      refine lv_if_eq (tgt := 38) hx hb dX0_nights_24 (by decide) (fun c20 => ?_) (fun c20 => ?_)
      · have hw := hw.1 c20
        refine lv_bipush (v := (-2 : Int32)) hx hb dX0_nights_38 (by decide) ?_
        exact gg_iret (xx_mv D E A ad sk) C0 hW hS hw dX0_nights_40
      · have hw := hw.2 c20
        refine lv_iload hx hb dX0_nights_27 (lv_at hl 4 rfl) ?_
        refine lv_i2l (v := (a4).toInt64) hx hb dX0_nights_29 rfl ?_
        refine lv_lconst (v := (0 : Int64)) hx hb dX0_nights_30 (by decide) ?_
        refine lv_lconst (v := (1 : Int64)) hx hb dX0_nights_31 (by decide) ?_
        refine xx_SI ⟨hx, hb, hml, hown, hts⟩ hA (xxt_in l _ _ _ _ hw) (va_cwS 3 hts (lw_S q139 q140 q103 q141) rfl rfl rfl cd_X0_in.2 ⟨Nat.le_of_ble_eq_true rfl, Nat.le_of_ble_eq_true rfl⟩) hW hS rfl hl.1 rfl (Nat.le_of_ble_eq_true rfl) dX0_nights_32 (fun r8 σ7 H locs hw hW hS => ?_)
        obtain ⟨hz_r8, hw⟩ := hw
        refine lv_if_ne (tgt := 41) hx hb dX0_nights_35 (by decide) (fun c19 => ?_) (fun c19 => ?_)
        · have hw := hw.2 c19
          refine lv_aload_n hx hb dX0_nights_41 rfl (lv_at hl 0 rfl) ?_
          refine lv_iconst (v := (0 : Int32)) hx hb dX0_nights_42 (by decide) ?_
          refine xx_VV ⟨hx, hb, hml, hown, hts⟩ hA (xxt_keeps l _ _ hw) (cwV 1 hts (lw_V q966 q968 qs41 q103 q969) rfl rfl rfl cd_X0_keeps ⟨Nat.le_of_ble_eq_true rfl, Nat.le_of_ble_eq_true rfl⟩) hW (xx_recv hW) hS rfl hl.1 rfl (Nat.le_of_ble_eq_true rfl) dX0_nights_43 (fun σ9 H locs hw hW hS => ?_)
          refine lv_iconst (v := (0 : Int32)) hx hb dX0_nights_46 (by decide) ?_
          refine lv_istore (lv' := [(5, .int (0 : Int32)), (0, .ref (ad 0)), (1, .int a1), (2, .int a2), (3, .int a3), (4, .int a4)]) hx hb dX0_nights_47 hl (by decide) rfl (fun ls hl => ?_)
          obtain ⟨n9, hw⟩ := hw
          exact xxk_nights_49  C0 hA  n9 a1 a2 a3 a4 (0 : Int32) σ9 _ _ _ hw hW hS (lv_sub hl [1, 2, 3, 4, 5, 0] rfl)
        · have hw := hw.1 c19
          refine lv_bipush (v := (-2 : Int32)) hx hb dX0_nights_38 (by decide) ?_
          exact gg_iret (xx_mv D E A ad sk) C0 hW hS hw dX0_nights_40
def xxr_g_orders (d : Nat) : Room := { frames := 206 + d, cells := 0, slots := 0, locals := 6102 + 28 * d }
theorem cd_X0_orders : yX0_orders.cls = RX0 ∧ yX0_orders.cls ≠ "java/lang/invoke/MethodHandle" ∧ yX0_orders.cls ≠ "java/lang/invoke/VarHandle" ∧ (parseMethodDescriptor yX0_orders.desc).map (fun d => d.parameters.length) = some 6 := by decide +kernel
/-! GleanersForGaps.orders(IIIIII)V -/
def xxw_orders_159 (G : Int32 → Int32 → Int32 → Int32 → Int32 → Int32 → xx_S → (xx_S → Prop) → Prop) (Q : xx_S → Prop) (K85 : Int32 → Int32 → Int32 → Int32 → Int32 → Int32 → Int32 → xx_S → Prop) (x1 : Int32) (x2 : Int32) (x3 : Int32) (x4 : Int32) (x5 : Int32) (x6 : Int32) (x7 : Int32) (s1 : Int32) (s2 : Int32) (s3 : Int32) (s4 : Int32) (s5 : Int32) (s6 : Int32) (σ : xx_S) : Prop :=
    (G s1 s2 s3 s4 s5 s6 σ (fun σ6 => (xxw_laysBack x4 σ6 (fun σ7 => K85 x1 x2 x3 x4 x5 x6 (x7 + (1 : Int32)) σ7))))
def xxw_orders_85 (G : Int32 → Int32 → Int32 → Int32 → Int32 → Int32 → xx_S → (xx_S → Prop) → Prop) (Q : xx_S → Prop)  : Nat → Int32 → Int32 → Int32 → Int32 → Int32 → Int32 → Int32 → xx_S → Prop
  | 0, _, _, _, _, _, _, _, _ => False
  | n + 1, x1, x2, x3, x4, x5, x6, x7, σ =>
    ((((xx_g σ 0 1) ≤ x7) → Q σ) ∧ (¬ ((xx_g σ 0 1) ≤ x7) → (xxw_isIn x3 x7 σ (fun r2 σ1 => (((r2 = 0) → xxw_orders_85 G Q n x1 x2 x3 x4 x5 x6 (x7 + (1 : Int32)) σ1) ∧ (¬ (r2 = 0) → (xxw_keeps x4 σ1 (fun σ3 => (xxw_gleans x7 x2 σ3 (fun r5 σ4 => (((x7 = x1) → xxw_orders_159 G Q (fun y0 y1 y2 y3 y4 y5 y6 τ => xxw_orders_85 G Q n y0 y1 y2 y3 y4 y5 y6 τ) x1 x2 x3 x4 x5 x6 x7 x1 x2 (x3 &&& (((1 : Int32) <<< (x7 &&& 31)) ^^^ (-1 : Int32))) (x4 + (1 : Int32)) ((((10 : Int32) * x5) + x7) + (1 : Int32)) r5 σ4) ∧ (¬ (x7 = x1) → xxw_orders_159 G Q (fun y0 y1 y2 y3 y4 y5 y6 τ => xxw_orders_85 G Q n y0 y1 y2 y3 y4 y5 y6 τ) x1 x2 x3 x4 x5 x6 x7 x1 x2 (x3 &&& (((1 : Int32) <<< (x7 &&& 31)) ^^^ (-1 : Int32))) (x4 + (1 : Int32)) ((((10 : Int32) * x5) + x7) + (1 : Int32)) x6 σ4))))))))))))
def xxw_orders_73 (G : Int32 → Int32 → Int32 → Int32 → Int32 → Int32 → xx_S → (xx_S → Prop) → Prop) (Q : xx_S → Prop)  (s1 : Int32) (σ : xx_S) : Prop :=
    (∀ σ12 : xx_S, σ12 = xx_s σ 0 33 s1 → (∀ σ13 : xx_S, σ13 = xx_s σ12 0 34 (1 : Int32) → Q σ13))
def xxw_orders_48 (G : Int32 → Int32 → Int32 → Int32 → Int32 → Int32 → xx_S → (xx_S → Prop) → Prop) (Q : xx_S → Prop)  (x7 : Int32) (s1 : Int32) (σ : xx_S) : Prop :=
    (∀ σ11 : xx_S, σ11 = xx_s σ 0 32 s1 → ((((xx_g σ11 0 34) = 0) → xxw_orders_73 G Q x7 σ11) ∧ (¬ ((xx_g σ11 0 34) = 0) → xxw_orders_73 G Q (if (xx_g σ11 0 33) < x7 then x7 else (xx_g σ11 0 33)) σ11)))
def xxw_orders_39 (G : Int32 → Int32 → Int32 → Int32 → Int32 → Int32 → xx_S → (xx_S → Prop) → Prop) (Q : xx_S → Prop)  (x5 : Int32) (x7 : Int32) (σ : xx_S) : Prop :=
    xxw_orders_48 G Q x7 x5 σ
def xxw_orders_20 (G : Int32 → Int32 → Int32 → Int32 → Int32 → Int32 → xx_S → (xx_S → Prop) → Prop) (Q : xx_S → Prop)  (x5 : Int32) (s0 : Int32) (σ : xx_S) : Prop :=
    ((((xx_g σ 0 34) = 0) → xxw_orders_39 G Q x5 s0 σ) ∧ (¬ ((xx_g σ 0 34) = 0) → (((s0 ≤ (xx_g σ 0 33)) → xxw_orders_48 G Q s0 (xx_g σ 0 32) σ) ∧ (¬ (s0 ≤ (xx_g σ 0 33)) → xxw_orders_39 G Q x5 s0 σ))))
def xxw_orders (G : Int32 → Int32 → Int32 → Int32 → Int32 → Int32 → xx_S → (xx_S → Prop) → Prop) (a1 : Int32) (a2 : Int32) (a3 : Int32) (a4 : Int32) (a5 : Int32) (a6 : Int32) (σ : xx_S) (Q : xx_S → Prop) : Prop :=
    (((a3 = 0) → (((a1 = (-1 : Int32)) → (xxw_gapsOf a2 σ (fun r18 σ17 => xxw_orders_20 G Q a5 (-r18) σ17))) ∧ (¬ (a1 = (-1 : Int32)) → xxw_orders_20 G Q a5 a6 σ))) ∧ (¬ (a3 = 0) → ∃ k9, xxw_orders_85 G Q k9 a1 a2 a3 a4 a5 a6 (0 : Int32) σ))
set_option maxHeartbeats 4000000 in
set_option maxRecDepth 100000 in
theorem xxk_orders_159 {p : Program} {l : Launch} {e : Env} {s : State} {m : MethodId} {args : Array Value} {below : List Frame} {meth : Method} {c : Code} {d : Nat} {G : Int32 → Int32 → Int32 → Int32 → Int32 → Int32 → xx_S → (xx_S → Prop) → Prop} {D : va_G} {E : Nat → ClassId} {A : Nat → Prop} {ad sk : Nat → Nat} {Q : xx_S → Prop} {K85 : Int32 → Int32 → Int32 → Int32 → Int32 → Int32 → Int32 → xx_S → Prop} (hG_orders : ∀ (b0 : Int32) (b1 : Int32) (b2 : Int32) (b3 : Int32) (b4 : Int32) (b5 : Int32) (σ : xx_S) (Q : xx_S → Prop), G b0 b1 b2 b3 b4 b5 σ Q → Met l yX0_orders (ws_ yX0_orders cX0_orders 9 none) (xxr_g_orders d) (va_Pc [.ref (ad 0), .int b0, .int b1, .int b2, .int b3, .int b4, .int b5] (fun U => xx_V D E A ad sk σ U U.heap)) (va_Qv Q (fun u t => xx_W D E A ad sk u t t.heap) A) 0 0 A) (C0 : gg_C p s m args meth c RX0 cX0_orders 9 none) (hA : xx_A sk A s) (hK85 : ∀ (x1 : Int32) (x2 : Int32) (x3 : Int32) (x4 : Int32) (x5 : Int32) (x6 : Int32) (x7 : Int32) (σ : xx_S) (H : Heap) (locs : List Loc) (ls : Array Slot), K85 x1 x2 x3 x4 x5 x6 x7 σ → xx_W D E A ad sk σ s H → va_S A s.heap H locs → lv_has ls 9 [(0, .ref (ad 0)), (1, .int x1), (2, .int x2), (3, .int x3), (4, .int x4), (5, .int x5), (6, .int x6), (7, .int x7)] → W p l e (xxr_g_orders (d + 1)) s m args below meth c H locs 0 0 (MQ below (va_Qv Q (fun u t => xx_W D E A ad sk u t t.heap) A) args s 0 0 A) (F0 m 85 ls [])) :
    ∀ (x1 : Int32) (x2 : Int32) (x3 : Int32) (x4 : Int32) (x5 : Int32) (x6 : Int32) (x7 : Int32) (s1 : Int32) (s2 : Int32) (s3 : Int32) (s4 : Int32) (s5 : Int32) (s6 : Int32) (σ : xx_S) (H : Heap) (locs : List Loc) (ls : Array Slot), xxw_orders_159 G Q K85 x1 x2 x3 x4 x5 x6 x7 s1 s2 s3 s4 s5 s6 σ → xx_W D E A ad sk σ s H → va_S A s.heap H locs → lv_has ls 9 [(0, .ref (ad 0)), (1, .int x1), (2, .int x2), (3, .int x3), (4, .int x4), (5, .int x5), (6, .int x6), (7, .int x7)] → W p l e (xxr_g_orders (d + 1)) s m args below meth c H locs 0 0 (MQ below (va_Qv Q (fun u t => xx_W D E A ad sk u t t.heap) A) args s 0 0 A) (F0 m 159 ls [.int s6, .int s5, .int s4, .int s3, .int s2, .int s1, .ref (ad 0)]) := by
  obtain ⟨hx, hb, hml, hown, hts, hr, hlocks⟩ := id C0
  intro x1 x2 x3 x4 x5 x6 x7 s1 s2 s3 s4 s5 s6 σ H locs ls hw hW hS hl
  unfold xxw_orders_159 at hw
  refine xx_VV ⟨hx, hb, hml, hown, hts⟩ hA (hG_orders _ _ _ _ _ _ _ _ hw) (cwV 6 hts (lw_V q994 q996 qs45 q103 q997) rfl rfl rfl cd_X0_orders ⟨by simp only [xxr_g_orders]; omega, by simp only [xxr_g_orders]; omega⟩) hW (xx_recv hW) hS rfl hl.1 rfl (Nat.le_of_ble_eq_true rfl) dX0_orders_159 (fun σ6 H locs hw hW hS => ?_)
  refine lv_aload_n hx hb dX0_orders_162 rfl (lv_at hl 0 rfl) ?_
  refine lv_iload hx hb dX0_orders_163 (lv_at hl 4 rfl) ?_
  refine xx_VV ⟨hx, hb, hml, hown, hts⟩ hA (xxt_laysBack l _ _ hw) (cwV 1 hts (lw_V q973 q975 qs42 q103 q976) rfl rfl rfl cd_X0_laysBack ⟨by simp only [xxr_g_orders, xxr_laysBack]; omega, by simp only [xxr_g_orders, xxr_laysBack]; omega⟩) hW (xx_recv hW) hS rfl hl.1 rfl (Nat.le_of_ble_eq_true rfl) dX0_orders_165 (fun σ7 H locs hw hW hS => ?_)
  refine lv_iinc (v := (x7 + (1 : Int32))) (lv' := [(7, .int (x7 + (1 : Int32))), (0, .ref (ad 0)), (1, .int x1), (2, .int x2), (3, .int x3), (4, .int x4), (5, .int x5), (6, .int x6)]) hx hb dX0_orders_168 hl (k := 7) rfl rfl (by decide) rfl (fun ls hl => ?_)
  refine lv_goto (tgt := 85) hx hb dX0_orders_171 (by decide) ?_
  exact hK85 x1 x2 x3 x4 x5 x6 (x7 + (1 : Int32)) σ7 _ _ _ hw hW hS (lv_sub hl [1, 2, 3, 4, 5, 6, 7, 0] rfl)
set_option maxHeartbeats 4000000 in
set_option maxRecDepth 100000 in
theorem xxk_orders_85 {p : Program} {l : Launch} {e : Env} {s : State} {m : MethodId} {args : Array Value} {below : List Frame} {meth : Method} {c : Code} {d : Nat} {G : Int32 → Int32 → Int32 → Int32 → Int32 → Int32 → xx_S → (xx_S → Prop) → Prop} {D : va_G} {E : Nat → ClassId} {A : Nat → Prop} {ad sk : Nat → Nat} {Q : xx_S → Prop}  (hG_orders : ∀ (b0 : Int32) (b1 : Int32) (b2 : Int32) (b3 : Int32) (b4 : Int32) (b5 : Int32) (σ : xx_S) (Q : xx_S → Prop), G b0 b1 b2 b3 b4 b5 σ Q → Met l yX0_orders (ws_ yX0_orders cX0_orders 9 none) (xxr_g_orders d) (va_Pc [.ref (ad 0), .int b0, .int b1, .int b2, .int b3, .int b4, .int b5] (fun U => xx_V D E A ad sk σ U U.heap)) (va_Qv Q (fun u t => xx_W D E A ad sk u t t.heap) A) 0 0 A) (C0 : gg_C p s m args meth c RX0 cX0_orders 9 none) (hA : xx_A sk A s) :
    ∀ n : Nat, ∀ (x1 : Int32) (x2 : Int32) (x3 : Int32) (x4 : Int32) (x5 : Int32) (x6 : Int32) (x7 : Int32) (σ : xx_S) (H : Heap) (locs : List Loc) (ls : Array Slot), xxw_orders_85 G Q n x1 x2 x3 x4 x5 x6 x7 σ → xx_W D E A ad sk σ s H → va_S A s.heap H locs → lv_has ls 9 [(0, .ref (ad 0)), (1, .int x1), (2, .int x2), (3, .int x3), (4, .int x4), (5, .int x5), (6, .int x6), (7, .int x7)] → W p l e (xxr_g_orders (d + 1)) s m args below meth c H locs 0 0 (MQ below (va_Qv Q (fun u t => xx_W D E A ad sk u t t.heap) A) args s 0 0 A) (F0 m 85 ls []) := by
  obtain ⟨hx, hb, hml, hown, hts, hr, hlocks⟩ := id C0
  intro n
  induction n with
  | zero =>
    intro x1 x2 x3 x4 x5 x6 x7 σ H locs ls hw hW hS hl
    exact absurd hw (by unfold xxw_orders_85; exact id)
  | succ n ih =>
    intro x1 x2 x3 x4 x5 x6 x7 σ H locs ls hw hW hS hl
    unfold xxw_orders_85 at hw
    refine lv_iload hx hb dX0_orders_85 (lv_at hl 7 rfl) ?_
    refine lv_aload_n hx hb dX0_orders_87 rfl (lv_at hl 0 rfl) ?_
    refine xx_geti hx hb hts hown hW 1 (by decide) q745 dX0_orders_88 ?_
    refine lv_icmp_ge (tgt := 174) hx hb dX0_orders_91 (by decide) (fun c10 => ?_) (fun c10 => ?_)
    · have hw := hw.1 c10
      exact gg_vret (xx_mv D E A ad sk) C0 hW hS hw dX0_orders_174
    · have hw := hw.2 c10
      refine lv_iload_n hx hb dX0_orders_94 rfl (lv_at hl 3 rfl) ?_
      refine lv_iload hx hb dX0_orders_95 (lv_at hl 7 rfl) ?_
      refine xx_SI ⟨hx, hb, hml, hown, hts⟩ hA (xxt_isIn l _ _ _ hw) (va_cwS 2 hts (lw_S q266 q267 q103 q268) rfl rfl rfl cd_X0_isIn.2 ⟨by simp only [xxr_g_orders, xxr_isIn]; omega, by simp only [xxr_g_orders, xxr_isIn]; omega⟩) hW hS rfl hl.1 rfl (Nat.le_of_ble_eq_true rfl) dX0_orders_97 (fun r2 σ1 H locs hw hW hS => ?_)
      obtain ⟨hz_r2, hw⟩ := hw
      refine lv_if_ne (tgt := 106) hx hb dX0_orders_100 (by decide) (fun c9 => ?_) (fun c9 => ?_)
      · have hw := hw.2 c9
        refine lv_aload_n hx hb dX0_orders_106 rfl (lv_at hl 0 rfl) ?_
        refine lv_iload hx hb dX0_orders_107 (lv_at hl 4 rfl) ?_
        refine xx_VV ⟨hx, hb, hml, hown, hts⟩ hA (xxt_keeps l _ _ hw) (cwV 1 hts (lw_V q966 q968 qs41 q103 q969) rfl rfl rfl cd_X0_keeps ⟨by simp only [xxr_g_orders, xxr_keeps]; omega, by simp only [xxr_g_orders, xxr_keeps]; omega⟩) hW (xx_recv hW) hS rfl hl.1 rfl (Nat.le_of_ble_eq_true rfl) dX0_orders_109 (fun σ3 H locs hw hW hS => ?_)
        refine lv_aload_n hx hb dX0_orders_112 rfl (lv_at hl 0 rfl) ?_
        refine lv_iload hx hb dX0_orders_113 (lv_at hl 7 rfl) ?_
        refine lv_iload_n hx hb dX0_orders_115 rfl (lv_at hl 2 rfl) ?_
        refine xx_VI ⟨hx, hb, hml, hown, hts⟩ hA (xxt_gleans l _ _ _ hw) (cwV 2 hts (lw_V q926 q928 qs34 q103 q929) rfl rfl rfl cd_X0_gleans ⟨by simp only [xxr_g_orders, xxr_gleans]; omega, by simp only [xxr_g_orders, xxr_gleans]; omega⟩) hW (xx_recv hW) hS rfl hl.1 rfl (Nat.le_of_ble_eq_true rfl) dX0_orders_116 (fun r5 σ4 H locs hw hW hS => ?_)
        refine lv_istore (lv' := [(8, .int r5), (0, .ref (ad 0)), (1, .int x1), (2, .int x2), (3, .int x3), (4, .int x4), (5, .int x5), (6, .int x6), (7, .int x7)]) hx hb dX0_orders_119 hl (by decide) rfl (fun ls hl => ?_)
        refine lv_aload_n hx hb dX0_orders_121 rfl (lv_at hl 1 rfl) ?_
        refine lv_iload_n hx hb dX0_orders_122 rfl (lv_at hl 2 rfl) ?_
        refine lv_iload_n hx hb dX0_orders_123 rfl (lv_at hl 3 rfl) ?_
        refine lv_iload_n hx hb dX0_orders_124 rfl (lv_at hl 4 rfl) ?_
        refine lv_iconst (v := (1 : Int32)) hx hb dX0_orders_125 (by decide) ?_
        refine lv_iload hx hb dX0_orders_126 (lv_at hl 8 rfl) ?_
        refine lv_ishl hx hb dX0_orders_128 ?_
        refine lv_iconst (v := (-1 : Int32)) hx hb dX0_orders_129 (by decide) ?_
        refine lv_ixor hx hb dX0_orders_130 ?_
        refine lv_iand hx hb dX0_orders_131 ?_
        refine lv_iload hx hb dX0_orders_132 (lv_at hl 5 rfl) ?_
        refine lv_iconst (v := (1 : Int32)) hx hb dX0_orders_134 (by decide) ?_
        refine lv_iadd hx hb dX0_orders_135 ?_
        refine lv_bipush (v := (10 : Int32)) hx hb dX0_orders_136 (by decide) ?_
        refine lv_iload hx hb dX0_orders_138 (lv_at hl 6 rfl) ?_
        refine lv_imul hx hb dX0_orders_140 ?_
        refine lv_iload hx hb dX0_orders_141 (lv_at hl 8 rfl) ?_
        refine lv_iadd hx hb dX0_orders_143 ?_
        refine lv_iconst (v := (1 : Int32)) hx hb dX0_orders_144 (by decide) ?_
        refine lv_iadd hx hb dX0_orders_145 ?_
        refine lv_iload hx hb dX0_orders_146 (lv_at hl 8 rfl) ?_
        refine lv_iload_n hx hb dX0_orders_148 rfl (lv_at hl 2 rfl) ?_
        refine lv_icmp_ne (tgt := 157) hx hb dX0_orders_149 (by decide) (fun c8 => ?_) (fun c8 => ?_)
        · have hw := hw.2 c8
          refine lv_iload hx hb dX0_orders_157 (lv_at hl 7 rfl) ?_
          exact xxk_orders_159 hG_orders C0 hA (fun y0 y1 y2 y3 y4 y5 y6 τ H9 l9 s9 => ih y0 y1 y2 y3 y4 y5 y6 τ H9 l9 s9) x1 x2 x3 x4 x5 x6 x7 x1 x2 (x3 &&& (((1 : Int32) <<< (x7 &&& 31)) ^^^ (-1 : Int32))) (x4 + (1 : Int32)) ((((10 : Int32) * x5) + x7) + (1 : Int32)) x6 σ4 _ _ _ hw hW hS (lv_sub hl [1, 2, 3, 4, 5, 6, 7, 8] rfl)
        · have hw := hw.1 c8
          refine lv_iload hx hb dX0_orders_152 (lv_at hl 0 rfl) ?_
          refine lv_goto (tgt := 159) hx hb dX0_orders_154 (by decide) ?_
          exact xxk_orders_159 hG_orders C0 hA (fun y0 y1 y2 y3 y4 y5 y6 τ H9 l9 s9 => ih y0 y1 y2 y3 y4 y5 y6 τ H9 l9 s9) x1 x2 x3 x4 x5 x6 x7 x1 x2 (x3 &&& (((1 : Int32) <<< (x7 &&& 31)) ^^^ (-1 : Int32))) (x4 + (1 : Int32)) ((((10 : Int32) * x5) + x7) + (1 : Int32)) r5 σ4 _ _ _ hw hW hS (lv_sub hl [1, 2, 3, 4, 5, 6, 7, 8] rfl)
      · have hw := hw.1 c9
        refine lv_goto (tgt := 168) hx hb dX0_orders_103 (by decide) ?_
        refine lv_iinc (v := (x7 + (1 : Int32))) (lv' := [(7, .int (x7 + (1 : Int32))), (0, .ref (ad 0)), (1, .int x1), (2, .int x2), (3, .int x3), (4, .int x4), (5, .int x5), (6, .int x6)]) hx hb dX0_orders_168 hl (k := 7) rfl rfl (by decide) rfl (fun ls hl => ?_)
        refine lv_goto (tgt := 85) hx hb dX0_orders_171 (by decide) ?_
        exact ih x1 x2 x3 x4 x5 x6 (x7 + (1 : Int32)) σ1 _ _ _ hw hW hS (lv_sub hl [1, 2, 3, 4, 5, 6, 7, 0] rfl)
set_option maxHeartbeats 4000000 in
set_option maxRecDepth 100000 in
theorem xxk_orders_73 {p : Program} {l : Launch} {e : Env} {s : State} {m : MethodId} {args : Array Value} {below : List Frame} {meth : Method} {c : Code} {d : Nat} {G : Int32 → Int32 → Int32 → Int32 → Int32 → Int32 → xx_S → (xx_S → Prop) → Prop} {D : va_G} {E : Nat → ClassId} {A : Nat → Prop} {ad sk : Nat → Nat} {Q : xx_S → Prop}  (hG_orders : ∀ (b0 : Int32) (b1 : Int32) (b2 : Int32) (b3 : Int32) (b4 : Int32) (b5 : Int32) (σ : xx_S) (Q : xx_S → Prop), G b0 b1 b2 b3 b4 b5 σ Q → Met l yX0_orders (ws_ yX0_orders cX0_orders 9 none) (xxr_g_orders d) (va_Pc [.ref (ad 0), .int b0, .int b1, .int b2, .int b3, .int b4, .int b5] (fun U => xx_V D E A ad sk σ U U.heap)) (va_Qv Q (fun u t => xx_W D E A ad sk u t t.heap) A) 0 0 A) (C0 : gg_C p s m args meth c RX0 cX0_orders 9 none) (hA : xx_A sk A s) :
    ∀ (s1 : Int32) (σ : xx_S) (H : Heap) (locs : List Loc) (ls : Array Slot), xxw_orders_73 G Q s1 σ → xx_W D E A ad sk σ s H → va_S A s.heap H locs → lv_has ls 9 [(0, .ref (ad 0))] → W p l e (xxr_g_orders (d + 1)) s m args below meth c H locs 0 0 (MQ below (va_Qv Q (fun u t => xx_W D E A ad sk u t t.heap) A) args s 0 0 A) (F0 m 73 ls [.int s1, .ref (ad 0)]) := by
  obtain ⟨hx, hb, hml, hown, hts, hr, hlocks⟩ := id C0
  intro s1 σ H locs ls hw hW hS hl
  unfold xxw_orders_73 at hw
  refine xx_puti hx hb hts hown hW hS 33 (by decide) q783 rfl rfl rfl dX0_orders_73 (fun H locs hW hS => ?_)
  obtain ⟨σ12, eσ12⟩ : ∃ z, z = xx_s σ 0 33 s1 := ⟨_, rfl⟩
  rw [← eσ12] at hW
  have hw := hw σ12 eσ12
  refine lv_aload_n hx hb dX0_orders_76 rfl (lv_at hl 0 rfl) ?_
  refine lv_iconst (v := (1 : Int32)) hx hb dX0_orders_77 (by decide) ?_
  refine xx_puti hx hb hts hown hW hS 34 (by decide) q784 rfl rfl rfl dX0_orders_78 (fun H locs hW hS => ?_)
  obtain ⟨σ13, eσ13⟩ : ∃ z, z = xx_s σ12 0 34 (1 : Int32) := ⟨_, rfl⟩
  rw [← eσ13] at hW
  have hw := hw σ13 eσ13
  exact gg_vret (xx_mv D E A ad sk) C0 hW hS hw dX0_orders_81
set_option maxHeartbeats 4000000 in
set_option maxRecDepth 100000 in
theorem xxk_orders_48 {p : Program} {l : Launch} {e : Env} {s : State} {m : MethodId} {args : Array Value} {below : List Frame} {meth : Method} {c : Code} {d : Nat} {G : Int32 → Int32 → Int32 → Int32 → Int32 → Int32 → xx_S → (xx_S → Prop) → Prop} {D : va_G} {E : Nat → ClassId} {A : Nat → Prop} {ad sk : Nat → Nat} {Q : xx_S → Prop}  (hG_orders : ∀ (b0 : Int32) (b1 : Int32) (b2 : Int32) (b3 : Int32) (b4 : Int32) (b5 : Int32) (σ : xx_S) (Q : xx_S → Prop), G b0 b1 b2 b3 b4 b5 σ Q → Met l yX0_orders (ws_ yX0_orders cX0_orders 9 none) (xxr_g_orders d) (va_Pc [.ref (ad 0), .int b0, .int b1, .int b2, .int b3, .int b4, .int b5] (fun U => xx_V D E A ad sk σ U U.heap)) (va_Qv Q (fun u t => xx_W D E A ad sk u t t.heap) A) 0 0 A) (C0 : gg_C p s m args meth c RX0 cX0_orders 9 none) (hA : xx_A sk A s) :
    ∀ (x7 : Int32) (s1 : Int32) (σ : xx_S) (H : Heap) (locs : List Loc) (ls : Array Slot), xxw_orders_48 G Q x7 s1 σ → xx_W D E A ad sk σ s H → va_S A s.heap H locs → lv_has ls 9 [(0, .ref (ad 0)), (7, .int x7)] → W p l e (xxr_g_orders (d + 1)) s m args below meth c H locs 0 0 (MQ below (va_Qv Q (fun u t => xx_W D E A ad sk u t t.heap) A) args s 0 0 A) (F0 m 48 ls [.int s1, .ref (ad 0)]) := by
  obtain ⟨hx, hb, hml, hown, hts, hr, hlocks⟩ := id C0
  intro x7 s1 σ H locs ls hw hW hS hl
  unfold xxw_orders_48 at hw
  refine xx_puti hx hb hts hown hW hS 32 (by decide) q782 rfl rfl rfl dX0_orders_48 (fun H locs hW hS => ?_)
  obtain ⟨σ11, eσ11⟩ : ∃ z, z = xx_s σ 0 32 s1 := ⟨_, rfl⟩
  rw [← eσ11] at hW
  have hw := hw σ11 eσ11
  refine lv_aload_n hx hb dX0_orders_51 rfl (lv_at hl 0 rfl) ?_
  refine lv_aload_n hx hb dX0_orders_52 rfl (lv_at hl 0 rfl) ?_
  refine xx_geti hx hb hts hown hW 34 (by decide) q784 dX0_orders_53 ?_
  refine lv_if_eq (tgt := 71) hx hb dX0_orders_56 (by decide) (fun c14 => ?_) (fun c14 => ?_)
  · have hw := hw.1 c14
    refine lv_iload hx hb dX0_orders_71 (lv_at hl 1 rfl) ?_
    exact xxk_orders_73 hG_orders C0 hA  x7 σ11 _ _ _ hw hW hS (lv_sub hl [0] rfl)
  · have hw := hw.2 c14
    refine lv_aload_n hx hb dX0_orders_59 rfl (lv_at hl 0 rfl) ?_
    refine xx_geti hx hb hts hown hW 33 (by decide) q783 dX0_orders_60 ?_
    refine lv_iload hx hb dX0_orders_63 (lv_at hl 1 rfl) ?_
    refine va_mmax hx hb (hml.trans hl.1.symm) hown (hts _ q273) (hts _ q274) (hts _ q113) (hts _ q275) (by simp only [xxr_g_orders]; omega) (by simp only [xxr_g_orders, List.map, List.sum_cons, List.sum_nil, Value.category]; omega) (Nat.zero_le _) (Nat.zero_le _) dX0_orders_65 ?_
    refine lv_goto (tgt := 73) hx hb dX0_orders_68 (by decide) ?_
    exact xxk_orders_73 hG_orders C0 hA  (if (xx_g σ11 0 33) < x7 then x7 else (xx_g σ11 0 33)) σ11 _ _ _ hw hW hS (lv_sub hl [0] rfl)
set_option maxHeartbeats 4000000 in
set_option maxRecDepth 100000 in
theorem xxk_orders_39 {p : Program} {l : Launch} {e : Env} {s : State} {m : MethodId} {args : Array Value} {below : List Frame} {meth : Method} {c : Code} {d : Nat} {G : Int32 → Int32 → Int32 → Int32 → Int32 → Int32 → xx_S → (xx_S → Prop) → Prop} {D : va_G} {E : Nat → ClassId} {A : Nat → Prop} {ad sk : Nat → Nat} {Q : xx_S → Prop}  (hG_orders : ∀ (b0 : Int32) (b1 : Int32) (b2 : Int32) (b3 : Int32) (b4 : Int32) (b5 : Int32) (σ : xx_S) (Q : xx_S → Prop), G b0 b1 b2 b3 b4 b5 σ Q → Met l yX0_orders (ws_ yX0_orders cX0_orders 9 none) (xxr_g_orders d) (va_Pc [.ref (ad 0), .int b0, .int b1, .int b2, .int b3, .int b4, .int b5] (fun U => xx_V D E A ad sk σ U U.heap)) (va_Qv Q (fun u t => xx_W D E A ad sk u t t.heap) A) 0 0 A) (C0 : gg_C p s m args meth c RX0 cX0_orders 9 none) (hA : xx_A sk A s) :
    ∀ (x5 : Int32) (x7 : Int32) (σ : xx_S) (H : Heap) (locs : List Loc) (ls : Array Slot), xxw_orders_39 G Q x5 x7 σ → xx_W D E A ad sk σ s H → va_S A s.heap H locs → lv_has ls 9 [(0, .ref (ad 0)), (5, .int x5), (7, .int x7)] → W p l e (xxr_g_orders (d + 1)) s m args below meth c H locs 0 0 (MQ below (va_Qv Q (fun u t => xx_W D E A ad sk u t t.heap) A) args s 0 0 A) (F0 m 39 ls [.ref (ad 0)]) := by
  obtain ⟨hx, hb, hml, hown, hts, hr, hlocks⟩ := id C0
  intro x5 x7 σ H locs ls hw hW hS hl
  unfold xxw_orders_39 at hw
  refine lv_iload hx hb dX0_orders_39 (lv_at hl 1 rfl) ?_
  refine lv_goto (tgt := 48) hx hb dX0_orders_41 (by decide) ?_
  exact xxk_orders_48 hG_orders C0 hA  x7 x5 σ _ _ _ hw hW hS (lv_sub hl [0, 2] rfl)
set_option maxHeartbeats 4000000 in
set_option maxRecDepth 100000 in
theorem xxk_orders_20 {p : Program} {l : Launch} {e : Env} {s : State} {m : MethodId} {args : Array Value} {below : List Frame} {meth : Method} {c : Code} {d : Nat} {G : Int32 → Int32 → Int32 → Int32 → Int32 → Int32 → xx_S → (xx_S → Prop) → Prop} {D : va_G} {E : Nat → ClassId} {A : Nat → Prop} {ad sk : Nat → Nat} {Q : xx_S → Prop}  (hG_orders : ∀ (b0 : Int32) (b1 : Int32) (b2 : Int32) (b3 : Int32) (b4 : Int32) (b5 : Int32) (σ : xx_S) (Q : xx_S → Prop), G b0 b1 b2 b3 b4 b5 σ Q → Met l yX0_orders (ws_ yX0_orders cX0_orders 9 none) (xxr_g_orders d) (va_Pc [.ref (ad 0), .int b0, .int b1, .int b2, .int b3, .int b4, .int b5] (fun U => xx_V D E A ad sk σ U U.heap)) (va_Qv Q (fun u t => xx_W D E A ad sk u t t.heap) A) 0 0 A) (C0 : gg_C p s m args meth c RX0 cX0_orders 9 none) (hA : xx_A sk A s) :
    ∀ (x5 : Int32) (s0 : Int32) (σ : xx_S) (H : Heap) (locs : List Loc) (ls : Array Slot), xxw_orders_20 G Q x5 s0 σ → xx_W D E A ad sk σ s H → va_S A s.heap H locs → lv_has ls 9 [(0, .ref (ad 0)), (5, .int x5)] → W p l e (xxr_g_orders (d + 1)) s m args below meth c H locs 0 0 (MQ below (va_Qv Q (fun u t => xx_W D E A ad sk u t t.heap) A) args s 0 0 A) (F0 m 20 ls [.int s0]) := by
  obtain ⟨hx, hb, hml, hown, hts, hr, hlocks⟩ := id C0
  intro x5 s0 σ H locs ls hw hW hS hl
  unfold xxw_orders_20 at hw
  refine lv_istore (lv' := [(7, .int s0), (0, .ref (ad 0)), (5, .int x5)]) hx hb dX0_orders_20 hl (by decide) rfl (fun ls hl => ?_)
  refine lv_aload_n hx hb dX0_orders_22 rfl (lv_at hl 1 rfl) ?_
  refine lv_aload_n hx hb dX0_orders_23 rfl (lv_at hl 1 rfl) ?_
  refine xx_geti hx hb hts hown hW 34 (by decide) q784 dX0_orders_24 ?_
  refine lv_if_eq (tgt := 39) hx hb dX0_orders_27 (by decide) (fun c16 => ?_) (fun c16 => ?_)
  · have hw := hw.1 c16
    exact xxk_orders_39 hG_orders C0 hA  x5 s0 σ _ _ _ hw hW hS (lv_sub hl [1, 2, 0] rfl)
  · have hw := hw.2 c16
    refine lv_iload hx hb dX0_orders_30 (lv_at hl 0 rfl) ?_
    refine lv_aload_n hx hb dX0_orders_32 rfl (lv_at hl 1 rfl) ?_
    refine xx_geti hx hb hts hown hW 33 (by decide) q783 dX0_orders_33 ?_
    refine lv_icmp_le (tgt := 44) hx hb dX0_orders_36 (by decide) (fun c15 => ?_) (fun c15 => ?_)
    · have hw := hw.1 c15
      refine lv_aload_n hx hb dX0_orders_44 rfl (lv_at hl 1 rfl) ?_
      refine xx_geti hx hb hts hown hW 32 (by decide) q782 dX0_orders_45 ?_
      exact xxk_orders_48 hG_orders C0 hA  s0 (xx_g σ 0 32) σ _ _ _ hw hW hS (lv_sub hl [1, 0] rfl)
    · have hw := hw.2 c15
      exact xxk_orders_39 hG_orders C0 hA  x5 s0 σ _ _ _ hw hW hS (lv_sub hl [1, 2, 0] rfl)
set_option maxHeartbeats 4000000 in
set_option maxRecDepth 100000 in
theorem xxt_orders (l : Launch) {d : Nat} {G : Int32 → Int32 → Int32 → Int32 → Int32 → Int32 → xx_S → (xx_S → Prop) → Prop} {D : va_G} {E : Nat → ClassId} {A : Nat → Prop} {ad sk : Nat → Nat} (hG_orders : ∀ (b0 : Int32) (b1 : Int32) (b2 : Int32) (b3 : Int32) (b4 : Int32) (b5 : Int32) (σ : xx_S) (Q : xx_S → Prop), G b0 b1 b2 b3 b4 b5 σ Q → Met l yX0_orders (ws_ yX0_orders cX0_orders 9 none) (xxr_g_orders d) (va_Pc [.ref (ad 0), .int b0, .int b1, .int b2, .int b3, .int b4, .int b5] (fun U => xx_V D E A ad sk σ U U.heap)) (va_Qv Q (fun u t => xx_W D E A ad sk u t t.heap) A) 0 0 A) (a1 : Int32) (a2 : Int32) (a3 : Int32) (a4 : Int32) (a5 : Int32) (a6 : Int32) (σ : xx_S) {Q : xx_S → Prop} (hw : xxw_orders G a1 a2 a3 a4 a5 a6 σ Q) :
    Met l yX0_orders (ws_ yX0_orders cX0_orders 9 none) (xxr_g_orders (d + 1)) (va_Pc [.ref (ad 0), .int a1, .int a2, .int a3, .int a4, .int a5, .int a6] (fun U => xx_V D E A ad sk σ U U.heap)) (va_Qv Q (fun u t => xx_W D E A ad sk u t t.heap) A) 0 0 A := by
  refine gg_entry (W0 := fun s H => xx_V D E A ad sk σ s H) (by decide) (Nat.le_of_ble_eq_true rfl) ?_
  intro p e s m args below meth c C0 hV ls hl
  have C0 : gg_C p s m args meth c RX0 cX0_orders 9 none := C0
  obtain ⟨hx, hb, hml, hown, hts, hr, hlocks⟩ := id C0
  have hl : lv_has ls 9 [(0, .ref (ad 0)), (1, .int a1), (2, .int a2), (3, .int a3), (4, .int a4), (5, .int a5), (6, .int a6)] := hl
  have hS : va_S A s.heap s.heap [] := va_S.rf
  have hA : xx_A sk A s := hV.2
  have hW : xx_W D E A ad sk σ s s.heap := hV.1
  unfold xxw_orders at hw
  refine lv_iload_n hx hb dX0_orders_0 rfl (lv_at hl 3 rfl) ?_
  refine lv_if_ne (tgt := 82) hx hb dX0_orders_1 (by decide) (fun c20 => ?_) (fun c20 => ?_)
  · have hw := hw.2 c20
    refine lv_iconst (v := (0 : Int32)) hx hb dX0_orders_82 (by decide) ?_
    refine lv_istore (lv' := [(7, .int (0 : Int32)), (0, .ref (ad 0)), (1, .int a1), (2, .int a2), (3, .int a3), (4, .int a4), (5, .int a5), (6, .int a6)]) hx hb dX0_orders_83 hl (by decide) rfl (fun ls hl => ?_)
    obtain ⟨n9, hw⟩ := hw
    exact xxk_orders_85 hG_orders C0 hA  n9 a1 a2 a3 a4 a5 a6 (0 : Int32) σ _ _ _ hw hW hS (lv_sub hl [1, 2, 3, 4, 5, 6, 7, 0] rfl)
  · have hw := hw.1 c20
    refine lv_iload_n hx hb dX0_orders_4 rfl (lv_at hl 1 rfl) ?_
    refine lv_iconst (v := (-1 : Int32)) hx hb dX0_orders_5 (by decide) ?_
    refine lv_icmp_ne (tgt := 18) hx hb dX0_orders_6 (by decide) (fun c19 => ?_) (fun c19 => ?_)
    · have hw := hw.2 c19
      refine lv_iload hx hb dX0_orders_18 (lv_at hl 6 rfl) ?_
      exact xxk_orders_20 hG_orders C0 hA  a5 a6 σ _ _ _ hw hW hS (lv_sub hl [0, 5] rfl)
    · have hw := hw.1 c19
      refine lv_aload_n hx hb dX0_orders_9 rfl (lv_at hl 0 rfl) ?_
      refine lv_iload_n hx hb dX0_orders_10 rfl (lv_at hl 2 rfl) ?_
      refine xx_VI ⟨hx, hb, hml, hown, hts⟩ hA (xxt_gapsOf l _ _ hw) (cwV 1 hts (lw_V q225 q227 qs0 q103 q229) rfl rfl rfl cd_X0_gapsOf ⟨by simp only [xxr_g_orders, xxr_gapsOf]; omega, by simp only [xxr_g_orders, xxr_gapsOf]; omega⟩) hW (xx_recv hW) hS rfl hl.1 rfl (Nat.le_of_ble_eq_true rfl) dX0_orders_11 (fun r18 σ17 H locs hw hW hS => ?_)
      refine lv_ineg hx hb dX0_orders_14 ?_
      refine lv_goto (tgt := 20) hx hb dX0_orders_15 (by decide) ?_
      exact xxk_orders_20 hG_orders C0 hA  a5 (-r18) σ17 _ _ _ hw hW hS (lv_sub hl [0, 5] rfl)
def xxw_g_orders : Nat → Int32 → Int32 → Int32 → Int32 → Int32 → Int32 → xx_S → (xx_S → Prop) → Prop
  | 0 => fun _ _ _ _ _ _ _ _  => False
  | d + 1 => fun b0 b1 b2 b3 b4 b5 σ Q => xxw_orders (xxw_g_orders d) b0 b1 b2 b3 b4 b5 σ Q
set_option maxHeartbeats 4000000 in
set_option maxRecDepth 100000 in
theorem xxt_g_orders (l : Launch) {D : va_G} {E : Nat → ClassId} {A : Nat → Prop} {ad sk : Nat → Nat} : ∀ d : Nat, ∀ (b0 : Int32) (b1 : Int32) (b2 : Int32) (b3 : Int32) (b4 : Int32) (b5 : Int32) (σ : xx_S) (Q : xx_S → Prop), xxw_g_orders d b0 b1 b2 b3 b4 b5 σ Q → Met l yX0_orders (ws_ yX0_orders cX0_orders 9 none) (xxr_g_orders d) (va_Pc [.ref (ad 0), .int b0, .int b1, .int b2, .int b3, .int b4, .int b5] (fun U => xx_V D E A ad sk σ U U.heap)) (va_Qv Q (fun u t => xx_W D E A ad sk u t t.heap) A) 0 0 A := by
  intro d
  induction d with
  | zero => intro b0 b1 b2 b3 b4 b5 σ Q hw; exact hw.elim
  | succ d ih => intro b0 b1 b2 b3 b4 b5 σ Q hw; exact xxt_orders l ih b0 b1 b2 b3 b4 b5 σ hw
theorem cd_X0_goesThrough : yX0_goesThrough.cls = RX0 ∧ yX0_goesThrough.cls ≠ "java/lang/invoke/MethodHandle" ∧ yX0_goesThrough.cls ≠ "java/lang/invoke/VarHandle" ∧ (parseMethodDescriptor yX0_goesThrough.desc).map (fun d => d.parameters.length) = some 2 := by decide +kernel
/-! GleanersForGaps.goesThrough(II)V -/
def xxw_goesThrough  (a1 : Int32) (a2 : Int32) (σ : xx_S) (Q : xx_S → Prop) : Prop :=
    (∀ σ1 : xx_S, σ1 = xx_s σ 0 34 (0 : Int32) → (xxw_g_orders 6 a1 a2 (((1 : Int32) <<< ((xx_g σ1 0 1) &&& 31)) - (1 : Int32)) (0 : Int32) (0 : Int32) (0 : Int32) σ1 (fun σ2 => Q σ2)))
abbrev xxr_goesThrough : Room := { frames := 213, cells := 0, slots := 0, locals := 6298 }
set_option maxHeartbeats 4000000 in
set_option maxRecDepth 100000 in
theorem xxt_goesThrough (l : Launch) {D : va_G} {E : Nat → ClassId} {A : Nat → Prop} {ad sk : Nat → Nat}  (a1 : Int32) (a2 : Int32) (σ : xx_S) {Q : xx_S → Prop} (hw : xxw_goesThrough a1 a2 σ Q) :
    Met l yX0_goesThrough (ws_ yX0_goesThrough cX0_goesThrough 3 none) xxr_goesThrough (va_Pc [.ref (ad 0), .int a1, .int a2] (fun U => xx_V D E A ad sk σ U U.heap)) (va_Qv Q (fun u t => xx_W D E A ad sk u t t.heap) A) 0 0 A := by
  refine gg_entry (W0 := fun s H => xx_V D E A ad sk σ s H) (by decide) (Nat.le_of_ble_eq_true rfl) ?_
  intro p e s m args below meth c C0 hV ls hl
  have C0 : gg_C p s m args meth c RX0 cX0_goesThrough 3 none := C0
  obtain ⟨hx, hb, hml, hown, hts, hr, hlocks⟩ := id C0
  have hl : lv_has ls 3 [(0, .ref (ad 0)), (1, .int a1), (2, .int a2)] := hl
  have hS : va_S A s.heap s.heap [] := va_S.rf
  have hA : xx_A sk A s := hV.2
  have hW : xx_W D E A ad sk σ s s.heap := hV.1
  unfold xxw_goesThrough at hw
  refine lv_aload_n hx hb dX0_goesThrough_0 rfl (lv_at hl 0 rfl) ?_
  refine lv_iconst (v := (0 : Int32)) hx hb dX0_goesThrough_1 (by decide) ?_
  refine xx_puti hx hb hts hown hW hS 34 (by decide) q784 rfl rfl rfl dX0_goesThrough_2 (fun H locs hW hS => ?_)
  obtain ⟨σ1, eσ1⟩ : ∃ z, z = xx_s σ 0 34 (0 : Int32) := ⟨_, rfl⟩
  rw [← eσ1] at hW
  have hw := hw σ1 eσ1
  refine lv_aload_n hx hb dX0_goesThrough_5 rfl (lv_at hl 0 rfl) ?_
  refine lv_iload_n hx hb dX0_goesThrough_6 rfl (lv_at hl 1 rfl) ?_
  refine lv_iload_n hx hb dX0_goesThrough_7 rfl (lv_at hl 2 rfl) ?_
  refine lv_iconst (v := (1 : Int32)) hx hb dX0_goesThrough_8 (by decide) ?_
  refine lv_aload_n hx hb dX0_goesThrough_9 rfl (lv_at hl 0 rfl) ?_
  refine xx_geti hx hb hts hown hW 1 (by decide) q745 dX0_goesThrough_10 ?_
  refine lv_ishl hx hb dX0_goesThrough_13 ?_
  refine lv_iconst (v := (1 : Int32)) hx hb dX0_goesThrough_14 (by decide) ?_
  refine lv_isub hx hb dX0_goesThrough_15 ?_
  refine lv_iconst (v := (0 : Int32)) hx hb dX0_goesThrough_16 (by decide) ?_
  refine lv_iconst (v := (0 : Int32)) hx hb dX0_goesThrough_17 (by decide) ?_
  refine lv_iconst (v := (0 : Int32)) hx hb dX0_goesThrough_18 (by decide) ?_
  refine xx_VV ⟨hx, hb, hml, hown, hts⟩ hA (xxt_g_orders l 6 _ _ _ _ _ _ _ _ hw) (cwV 6 hts (lw_V q994 q996 qs45 q103 q997) rfl rfl rfl cd_X0_orders ⟨Nat.le_of_ble_eq_true rfl, Nat.le_of_ble_eq_true rfl⟩) hW (xx_recv hW) hS rfl hl.1 rfl (Nat.le_of_ble_eq_true rfl) dX0_goesThrough_19 (fun σ2 H locs hw hW hS => ?_)
  exact gg_vret (xx_mv D E A ad sk) C0 hW hS hw dX0_goesThrough_22
theorem cd_X0_first : yX0_first.cls = RX0 ∧ yX0_first.cls ≠ "java/lang/invoke/MethodHandle" ∧ yX0_first.cls ≠ "java/lang/invoke/VarHandle" ∧ (parseMethodDescriptor yX0_first.desc).map (fun d => d.parameters.length) = some 3 := by decide +kernel
/-! GleanersForGaps.first(III)I -/
def xxw_first  (a1 : Int32) (a2 : Int32) (a3 : Int32) (σ : xx_S) (Q : Int32 → xx_S → Prop) : Prop :=
    (xxw_isOne a1 σ (fun r2 σ1 => (((r2 = 0) → Q (-1000 : Int32) σ1) ∧ (¬ (r2 = 0) → (xxw_isRow a2 σ1 (fun r4 σ3 => (((r4 = 0) → Q (-1000 : Int32) σ3) ∧ (¬ (r4 = 0) → (xxw_in ((a3).toInt64) (0 : Int64) (1 : Int64) σ3 (fun r6 σ5 => (((r6 = 0) → Q (-1000 : Int32) σ5) ∧ (¬ (r6 = 0) → (xxw_goesThrough a1 a2 σ5 (fun σ7 => (((a3 = 0) → Q (xx_g σ7 0 32) σ7) ∧ (¬ (a3 = 0) → Q (xx_g σ7 0 33) σ7))))))))))))))))
abbrev xxr_first : Room := { frames := 214, cells := 0, slots := 0, locals := 6320 }
set_option maxHeartbeats 4000000 in
set_option maxRecDepth 100000 in
theorem xxt_first (l : Launch) {D : va_G} {E : Nat → ClassId} {A : Nat → Prop} {ad sk : Nat → Nat}  (a1 : Int32) (a2 : Int32) (a3 : Int32) (σ : xx_S) {Q : Int32 → xx_S → Prop} (hw : xxw_first a1 a2 a3 σ Q) :
    Met l yX0_first (ws_ yX0_first cX0_first 4 (some .int)) xxr_first (va_Pc [.ref (ad 0), .int a1, .int a2, .int a3] (fun U => xx_V D E A ad sk σ U U.heap)) (va_Qi Q (fun u t => xx_W D E A ad sk u t t.heap) A) 0 0 A := by
  refine gg_entry (W0 := fun s H => xx_V D E A ad sk σ s H) (by decide) (Nat.le_of_ble_eq_true rfl) ?_
  intro p e s m args below meth c C0 hV ls hl
  have C0 : gg_C p s m args meth c RX0 cX0_first 4 (some .int) := C0
  obtain ⟨hx, hb, hml, hown, hts, hr, hlocks⟩ := id C0
  have hl : lv_has ls 4 [(0, .ref (ad 0)), (1, .int a1), (2, .int a2), (3, .int a3)] := hl
  have hS : va_S A s.heap s.heap [] := va_S.rf
  have hA : xx_A sk A s := hV.2
  have hW : xx_W D E A ad sk σ s s.heap := hV.1
  unfold xxw_first at hw
  refine lv_aload_n hx hb dX0_first_0 rfl (lv_at hl 0 rfl) ?_
  refine lv_iload_n hx hb dX0_first_1 rfl (lv_at hl 1 rfl) ?_
  refine xx_VI ⟨hx, hb, hml, hown, hts⟩ hA (xxt_isOne l _ _ hw) (cwV 1 hts (lw_V q245 q247 qs2 q103 q248) rfl rfl rfl cd_X0_isOne ⟨Nat.le_of_ble_eq_true rfl, Nat.le_of_ble_eq_true rfl⟩) hW (xx_recv hW) hS rfl hl.1 rfl (Nat.le_of_ble_eq_true rfl) dX0_first_2 (fun r2 σ1 H locs hw hW hS => ?_)
  obtain ⟨hz_r2, hw⟩ := hw
  refine lv_if_eq (tgt := 25) hx hb dX0_first_5 (by decide) (fun c11 => ?_) (fun c11 => ?_)
  · have hw := hw.1 c11
    refine lv_sipush (v := (-1000 : Int32)) hx hb dX0_first_25 (by decide) ?_
    exact gg_iret (xx_mv D E A ad sk) C0 hW hS hw dX0_first_28
  · have hw := hw.2 c11
    refine lv_iload_n hx hb dX0_first_8 rfl (lv_at hl 2 rfl) ?_
    refine xx_SI ⟨hx, hb, hml, hown, hts⟩ hA (xxt_isRow l _ _ hw) (va_cwS 1 hts (lw_S q220 q221 q103 q222) rfl rfl rfl cd_X0_isRow.2 ⟨Nat.le_of_ble_eq_true rfl, Nat.le_of_ble_eq_true rfl⟩) hW hS rfl hl.1 rfl (Nat.le_of_ble_eq_true rfl) dX0_first_9 (fun r4 σ3 H locs hw hW hS => ?_)
    obtain ⟨hz_r4, hw⟩ := hw
    refine lv_if_eq (tgt := 25) hx hb dX0_first_12 (by decide) (fun c10 => ?_) (fun c10 => ?_)
    · have hw := hw.1 c10
      refine lv_sipush (v := (-1000 : Int32)) hx hb dX0_first_25 (by decide) ?_
      exact gg_iret (xx_mv D E A ad sk) C0 hW hS hw dX0_first_28
    · have hw := hw.2 c10
      refine lv_iload_n hx hb dX0_first_15 rfl (lv_at hl 3 rfl) ?_
      refine lv_i2l (v := (a3).toInt64) hx hb dX0_first_16 rfl ?_
      refine lv_lconst (v := (0 : Int64)) hx hb dX0_first_17 (by decide) ?_
      refine lv_lconst (v := (1 : Int64)) hx hb dX0_first_18 (by decide) ?_
      refine xx_SI ⟨hx, hb, hml, hown, hts⟩ hA (xxt_in l _ _ _ _ hw) (va_cwS 3 hts (lw_S q139 q140 q103 q141) rfl rfl rfl cd_X0_in.2 ⟨Nat.le_of_ble_eq_true rfl, Nat.le_of_ble_eq_true rfl⟩) hW hS rfl hl.1 rfl (Nat.le_of_ble_eq_true rfl) dX0_first_19 (fun r6 σ5 H locs hw hW hS => ?_)
      obtain ⟨hz_r6, hw⟩ := hw
      refine lv_if_ne (tgt := 29) hx hb dX0_first_22 (by decide) (fun c9 => ?_) (fun c9 => ?_)
      · have hw := hw.2 c9
        refine lv_aload_n hx hb dX0_first_29 rfl (lv_at hl 0 rfl) ?_
        refine lv_iload_n hx hb dX0_first_30 rfl (lv_at hl 1 rfl) ?_
        refine lv_iload_n hx hb dX0_first_31 rfl (lv_at hl 2 rfl) ?_
        refine xx_VV ⟨hx, hb, hml, hown, hts⟩ hA (xxt_goesThrough l _ _ _ hw) (cwV 2 hts (lw_V q990 q992 qs44 q103 q993) rfl rfl rfl cd_X0_goesThrough ⟨Nat.le_of_ble_eq_true rfl, Nat.le_of_ble_eq_true rfl⟩) hW (xx_recv hW) hS rfl hl.1 rfl (Nat.le_of_ble_eq_true rfl) dX0_first_32 (fun σ7 H locs hw hW hS => ?_)
        refine lv_iload_n hx hb dX0_first_35 rfl (lv_at hl 3 rfl) ?_
        refine lv_if_ne (tgt := 46) hx hb dX0_first_36 (by decide) (fun c8 => ?_) (fun c8 => ?_)
        · have hw := hw.2 c8
          refine lv_aload_n hx hb dX0_first_46 rfl (lv_at hl 0 rfl) ?_
          refine xx_geti hx hb hts hown hW 33 (by decide) q783 dX0_first_47 ?_
          exact gg_iret (xx_mv D E A ad sk) C0 hW hS hw dX0_first_50
        · have hw := hw.1 c8
          refine lv_aload_n hx hb dX0_first_39 rfl (lv_at hl 0 rfl) ?_
          refine xx_geti hx hb hts hown hW 32 (by decide) q782 dX0_first_40 ?_
          refine lv_goto (tgt := 50) hx hb dX0_first_43 (by decide) ?_
          exact gg_iret (xx_mv D E A ad sk) C0 hW hS hw dX0_first_50
      · have hw := hw.1 c9
        refine lv_sipush (v := (-1000 : Int32)) hx hb dX0_first_25 (by decide) ?_
        exact gg_iret (xx_mv D E A ad sk) C0 hW hS hw dX0_first_28
theorem cd_X0_alone : yX0_alone.cls = RX0 ∧ yX0_alone.cls ≠ "java/lang/invoke/MethodHandle" ∧ yX0_alone.cls ≠ "java/lang/invoke/VarHandle" ∧ (parseMethodDescriptor yX0_alone.desc).map (fun d => d.parameters.length) = some 2 := by decide +kernel
/-! GleanersForGaps.alone(IZ)I -/
def xxw_alone_70  (Q : Int32 → xx_S → Prop) (K8 : Int32 → Int32 → Int32 → Int32 → Int32 → xx_S → Prop) (x1 : Int32) (x2 : Int32) (x3 : Int32) (x5 : Int32) (s0 : Int32) (σ : xx_S) : Prop :=
    K8 x1 x2 x3 s0 (x5 + (1 : Int32)) σ
def xxw_alone_57  (Q : Int32 → xx_S → Prop) (K8 : Int32 → Int32 → Int32 → Int32 → Int32 → xx_S → Prop) (x1 : Int32) (x2 : Int32) (x4 : Int32) (x5 : Int32) (x6 : Int32) (x7 : Int32) (s0 : Int32) (σ : xx_S) : Prop :=
    (((x7 = 0) → xxw_alone_70 Q K8 x1 x2 s0 x5 x4 σ) ∧ (¬ (x7 = 0) → xxw_alone_70 Q K8 x1 x2 s0 x5 x6 σ))
def xxw_alone_44  (Q : Int32 → xx_S → Prop) (K8 : Int32 → Int32 → Int32 → Int32 → Int32 → xx_S → Prop) (x1 : Int32) (x2 : Int32) (x3 : Int32) (x4 : Int32) (x5 : Int32) (x6 : Int32) (s0 : Int32) (σ : xx_S) : Prop :=
    (((s0 = 0) → xxw_alone_57 Q K8 x1 x2 x4 x5 x6 s0 x3 σ) ∧ (¬ (s0 = 0) → xxw_alone_57 Q K8 x1 x2 x4 x5 x6 s0 x5 σ))
def xxw_alone_39  (Q : Int32 → xx_S → Prop) (K8 : Int32 → Int32 → Int32 → Int32 → Int32 → xx_S → Prop) (x1 : Int32) (x2 : Int32) (x3 : Int32) (x4 : Int32) (x5 : Int32) (x6 : Int32) (σ : xx_S) : Prop :=
    xxw_alone_44 Q K8 x1 x2 x3 x4 x5 x6 (1 : Int32) σ
def xxw_alone_8  (Q : Int32 → xx_S → Prop)  : Nat → Int32 → Int32 → Int32 → Int32 → Int32 → xx_S → Prop
  | 0, _, _, _, _, _, _ => False
  | n + 1, x1, x2, x3, x4, x5, σ =>
    ((((xx_g σ 0 1) ≤ x5) → (((x2 = 0) → Q x4 σ) ∧ (¬ (x2 = 0) → Q x3 σ))) ∧ (¬ ((xx_g σ 0 1) ≤ x5) → (xxw_triesOf x5 x1 (0 : Int32) σ (fun r3 σ2 => (((x3 = (-1 : Int32)) → xxw_alone_39 Q (fun y0 y1 y2 y3 y4 τ => xxw_alone_8 Q n y0 y1 y2 y3 y4 τ) x1 x2 x3 x4 x5 r3 σ2) ∧ (¬ (x3 = (-1 : Int32)) → (((r3 ≤ x4) → xxw_alone_44 Q (fun y0 y1 y2 y3 y4 τ => xxw_alone_8 Q n y0 y1 y2 y3 y4 τ) x1 x2 x3 x4 x5 r3 (0 : Int32) σ2) ∧ (¬ (r3 ≤ x4) → xxw_alone_39 Q (fun y0 y1 y2 y3 y4 τ => xxw_alone_8 Q n y0 y1 y2 y3 y4 τ) x1 x2 x3 x4 x5 r3 σ2))))))))
def xxw_alone  (a1 : Int32) (a2 : Int32) (σ : xx_S) (Q : Int32 → xx_S → Prop) : Prop :=
    ∃ k9, xxw_alone_8 Q k9 a1 a2 (-1 : Int32) (-1 : Int32) (0 : Int32) σ
abbrev xxr_alone : Room := { frames := 207, cells := 0, slots := 0, locals := 6128 }
set_option maxHeartbeats 4000000 in
set_option maxRecDepth 100000 in
theorem xxk_alone_70 {p : Program} {l : Launch} {e : Env} {s : State} {m : MethodId} {args : Array Value} {below : List Frame} {meth : Method} {c : Code} {D : va_G} {E : Nat → ClassId} {A : Nat → Prop} {ad sk : Nat → Nat} {Q : Int32 → xx_S → Prop} {K8 : Int32 → Int32 → Int32 → Int32 → Int32 → xx_S → Prop}  (C0 : gg_C p s m args meth c RX0 cX0_alone 8 (some .int)) (hA : xx_A sk A s) (hK8 : ∀ (x1 : Int32) (x2 : Int32) (x3 : Int32) (x4 : Int32) (x5 : Int32) (σ : xx_S) (H : Heap) (locs : List Loc) (ls : Array Slot), K8 x1 x2 x3 x4 x5 σ → xx_W D E A ad sk σ s H → va_S A s.heap H locs → lv_has ls 8 [(0, .ref (ad 0)), (1, .int x1), (2, .int x2), (3, .int x3), (4, .int x4), (5, .int x5)] → W p l e xxr_alone s m args below meth c H locs 0 0 (MQ below (va_Qi Q (fun u t => xx_W D E A ad sk u t t.heap) A) args s 0 0 A) (F0 m 8 ls [])) :
    ∀ (x1 : Int32) (x2 : Int32) (x3 : Int32) (x5 : Int32) (s0 : Int32) (σ : xx_S) (H : Heap) (locs : List Loc) (ls : Array Slot), xxw_alone_70 Q K8 x1 x2 x3 x5 s0 σ → xx_W D E A ad sk σ s H → va_S A s.heap H locs → lv_has ls 8 [(0, .ref (ad 0)), (1, .int x1), (2, .int x2), (3, .int x3), (5, .int x5)] → W p l e xxr_alone s m args below meth c H locs 0 0 (MQ below (va_Qi Q (fun u t => xx_W D E A ad sk u t t.heap) A) args s 0 0 A) (F0 m 70 ls [.int s0]) := by
  obtain ⟨hx, hb, hml, hown, hts, hr, hlocks⟩ := id C0
  intro x1 x2 x3 x5 s0 σ H locs ls hw hW hS hl
  unfold xxw_alone_70 at hw
  refine lv_istore (lv' := [(4, .int s0), (0, .ref (ad 0)), (1, .int x1), (2, .int x2), (3, .int x3), (5, .int x5)]) hx hb dX0_alone_70 hl (by decide) rfl (fun ls hl => ?_)
  refine lv_iinc (v := (x5 + (1 : Int32))) (lv' := [(5, .int (x5 + (1 : Int32))), (4, .int s0), (0, .ref (ad 0)), (1, .int x1), (2, .int x2), (3, .int x3)]) hx hb dX0_alone_72 hl (k := 5) rfl rfl (by decide) rfl (fun ls hl => ?_)
  refine lv_goto (tgt := 8) hx hb dX0_alone_75 (by decide) ?_
  exact hK8 x1 x2 x3 s0 (x5 + (1 : Int32)) σ _ _ _ hw hW hS (lv_sub hl [2, 3, 4, 5, 1, 0] rfl)
set_option maxHeartbeats 4000000 in
set_option maxRecDepth 100000 in
theorem xxk_alone_57 {p : Program} {l : Launch} {e : Env} {s : State} {m : MethodId} {args : Array Value} {below : List Frame} {meth : Method} {c : Code} {D : va_G} {E : Nat → ClassId} {A : Nat → Prop} {ad sk : Nat → Nat} {Q : Int32 → xx_S → Prop} {K8 : Int32 → Int32 → Int32 → Int32 → Int32 → xx_S → Prop}  (C0 : gg_C p s m args meth c RX0 cX0_alone 8 (some .int)) (hA : xx_A sk A s) (hK8 : ∀ (x1 : Int32) (x2 : Int32) (x3 : Int32) (x4 : Int32) (x5 : Int32) (σ : xx_S) (H : Heap) (locs : List Loc) (ls : Array Slot), K8 x1 x2 x3 x4 x5 σ → xx_W D E A ad sk σ s H → va_S A s.heap H locs → lv_has ls 8 [(0, .ref (ad 0)), (1, .int x1), (2, .int x2), (3, .int x3), (4, .int x4), (5, .int x5)] → W p l e xxr_alone s m args below meth c H locs 0 0 (MQ below (va_Qi Q (fun u t => xx_W D E A ad sk u t t.heap) A) args s 0 0 A) (F0 m 8 ls [])) :
    ∀ (x1 : Int32) (x2 : Int32) (x4 : Int32) (x5 : Int32) (x6 : Int32) (x7 : Int32) (s0 : Int32) (σ : xx_S) (H : Heap) (locs : List Loc) (ls : Array Slot), xxw_alone_57 Q K8 x1 x2 x4 x5 x6 x7 s0 σ → xx_W D E A ad sk σ s H → va_S A s.heap H locs → lv_has ls 8 [(0, .ref (ad 0)), (1, .int x1), (2, .int x2), (4, .int x4), (5, .int x5), (6, .int x6), (7, .int x7)] → W p l e xxr_alone s m args below meth c H locs 0 0 (MQ below (va_Qi Q (fun u t => xx_W D E A ad sk u t t.heap) A) args s 0 0 A) (F0 m 57 ls [.int s0]) := by
  obtain ⟨hx, hb, hml, hown, hts, hr, hlocks⟩ := id C0
  intro x1 x2 x4 x5 x6 x7 s0 σ H locs ls hw hW hS hl
  unfold xxw_alone_57 at hw
  refine lv_istore_n (lv' := [(3, .int s0), (0, .ref (ad 0)), (1, .int x1), (2, .int x2), (4, .int x4), (5, .int x5), (6, .int x6), (7, .int x7)]) hx hb dX0_alone_57 rfl hl (by decide) rfl (fun ls hl => ?_)
  refine lv_iload hx hb dX0_alone_58 (lv_at hl 7 rfl) ?_
  refine lv_if_eq (tgt := 68) hx hb dX0_alone_60 (by decide) (fun c4 => ?_) (fun c4 => ?_)
  · have hw := hw.1 c4
    refine lv_iload hx hb dX0_alone_68 (lv_at hl 4 rfl) ?_
    exact xxk_alone_70  C0 hA hK8 x1 x2 s0 x5 x4 σ _ _ _ hw hW hS (lv_sub hl [1, 2, 3, 0, 5] rfl)
  · have hw := hw.2 c4
    refine lv_iload hx hb dX0_alone_63 (lv_at hl 6 rfl) ?_
    refine lv_goto (tgt := 70) hx hb dX0_alone_65 (by decide) ?_
    exact xxk_alone_70  C0 hA hK8 x1 x2 s0 x5 x6 σ _ _ _ hw hW hS (lv_sub hl [1, 2, 3, 0, 5] rfl)
set_option maxHeartbeats 4000000 in
set_option maxRecDepth 100000 in
theorem xxk_alone_44 {p : Program} {l : Launch} {e : Env} {s : State} {m : MethodId} {args : Array Value} {below : List Frame} {meth : Method} {c : Code} {D : va_G} {E : Nat → ClassId} {A : Nat → Prop} {ad sk : Nat → Nat} {Q : Int32 → xx_S → Prop} {K8 : Int32 → Int32 → Int32 → Int32 → Int32 → xx_S → Prop}  (C0 : gg_C p s m args meth c RX0 cX0_alone 8 (some .int)) (hA : xx_A sk A s) (hK8 : ∀ (x1 : Int32) (x2 : Int32) (x3 : Int32) (x4 : Int32) (x5 : Int32) (σ : xx_S) (H : Heap) (locs : List Loc) (ls : Array Slot), K8 x1 x2 x3 x4 x5 σ → xx_W D E A ad sk σ s H → va_S A s.heap H locs → lv_has ls 8 [(0, .ref (ad 0)), (1, .int x1), (2, .int x2), (3, .int x3), (4, .int x4), (5, .int x5)] → W p l e xxr_alone s m args below meth c H locs 0 0 (MQ below (va_Qi Q (fun u t => xx_W D E A ad sk u t t.heap) A) args s 0 0 A) (F0 m 8 ls [])) :
    ∀ (x1 : Int32) (x2 : Int32) (x3 : Int32) (x4 : Int32) (x5 : Int32) (x6 : Int32) (s0 : Int32) (σ : xx_S) (H : Heap) (locs : List Loc) (ls : Array Slot), xxw_alone_44 Q K8 x1 x2 x3 x4 x5 x6 s0 σ → xx_W D E A ad sk σ s H → va_S A s.heap H locs → lv_has ls 8 [(0, .ref (ad 0)), (1, .int x1), (2, .int x2), (3, .int x3), (4, .int x4), (5, .int x5), (6, .int x6)] → W p l e xxr_alone s m args below meth c H locs 0 0 (MQ below (va_Qi Q (fun u t => xx_W D E A ad sk u t t.heap) A) args s 0 0 A) (F0 m 44 ls [.int s0]) := by
  obtain ⟨hx, hb, hml, hown, hts, hr, hlocks⟩ := id C0
  intro x1 x2 x3 x4 x5 x6 s0 σ H locs ls hw hW hS hl
  unfold xxw_alone_44 at hw
  refine lv_istore (lv' := [(7, .int s0), (0, .ref (ad 0)), (1, .int x1), (2, .int x2), (3, .int x3), (4, .int x4), (5, .int x5), (6, .int x6)]) hx hb dX0_alone_44 hl (by decide) rfl (fun ls hl => ?_)
  refine lv_iload hx hb dX0_alone_46 (lv_at hl 0 rfl) ?_
  refine lv_if_eq (tgt := 56) hx hb dX0_alone_48 (by decide) (fun c5 => ?_) (fun c5 => ?_)
  · have hw := hw.1 c5
    refine lv_iload_n hx hb dX0_alone_56 rfl (lv_at hl 4 rfl) ?_
    exact xxk_alone_57  C0 hA hK8 x1 x2 x4 x5 x6 s0 x3 σ _ _ _ hw hW hS (lv_sub hl [1, 2, 3, 5, 6, 7, 0] rfl)
  · have hw := hw.2 c5
    refine lv_iload hx hb dX0_alone_51 (lv_at hl 6 rfl) ?_
    refine lv_goto (tgt := 57) hx hb dX0_alone_53 (by decide) ?_
    exact xxk_alone_57  C0 hA hK8 x1 x2 x4 x5 x6 s0 x5 σ _ _ _ hw hW hS (lv_sub hl [1, 2, 3, 5, 6, 7, 0] rfl)
set_option maxHeartbeats 4000000 in
set_option maxRecDepth 100000 in
theorem xxk_alone_39 {p : Program} {l : Launch} {e : Env} {s : State} {m : MethodId} {args : Array Value} {below : List Frame} {meth : Method} {c : Code} {D : va_G} {E : Nat → ClassId} {A : Nat → Prop} {ad sk : Nat → Nat} {Q : Int32 → xx_S → Prop} {K8 : Int32 → Int32 → Int32 → Int32 → Int32 → xx_S → Prop}  (C0 : gg_C p s m args meth c RX0 cX0_alone 8 (some .int)) (hA : xx_A sk A s) (hK8 : ∀ (x1 : Int32) (x2 : Int32) (x3 : Int32) (x4 : Int32) (x5 : Int32) (σ : xx_S) (H : Heap) (locs : List Loc) (ls : Array Slot), K8 x1 x2 x3 x4 x5 σ → xx_W D E A ad sk σ s H → va_S A s.heap H locs → lv_has ls 8 [(0, .ref (ad 0)), (1, .int x1), (2, .int x2), (3, .int x3), (4, .int x4), (5, .int x5)] → W p l e xxr_alone s m args below meth c H locs 0 0 (MQ below (va_Qi Q (fun u t => xx_W D E A ad sk u t t.heap) A) args s 0 0 A) (F0 m 8 ls [])) :
    ∀ (x1 : Int32) (x2 : Int32) (x3 : Int32) (x4 : Int32) (x5 : Int32) (x6 : Int32) (σ : xx_S) (H : Heap) (locs : List Loc) (ls : Array Slot), xxw_alone_39 Q K8 x1 x2 x3 x4 x5 x6 σ → xx_W D E A ad sk σ s H → va_S A s.heap H locs → lv_has ls 8 [(0, .ref (ad 0)), (1, .int x1), (2, .int x2), (3, .int x3), (4, .int x4), (5, .int x5), (6, .int x6)] → W p l e xxr_alone s m args below meth c H locs 0 0 (MQ below (va_Qi Q (fun u t => xx_W D E A ad sk u t t.heap) A) args s 0 0 A) (F0 m 39 ls []) := by
  obtain ⟨hx, hb, hml, hown, hts, hr, hlocks⟩ := id C0
  intro x1 x2 x3 x4 x5 x6 σ H locs ls hw hW hS hl
  unfold xxw_alone_39 at hw
  refine lv_iconst (v := (1 : Int32)) hx hb dX0_alone_39 (by decide) ?_
  refine lv_goto (tgt := 44) hx hb dX0_alone_40 (by decide) ?_
  exact xxk_alone_44  C0 hA hK8 x1 x2 x3 x4 x5 x6 (1 : Int32) σ _ _ _ hw hW hS (hl)
set_option maxHeartbeats 4000000 in
set_option maxRecDepth 100000 in
theorem xxk_alone_8 {p : Program} {l : Launch} {e : Env} {s : State} {m : MethodId} {args : Array Value} {below : List Frame} {meth : Method} {c : Code} {D : va_G} {E : Nat → ClassId} {A : Nat → Prop} {ad sk : Nat → Nat} {Q : Int32 → xx_S → Prop}   (C0 : gg_C p s m args meth c RX0 cX0_alone 8 (some .int)) (hA : xx_A sk A s) :
    ∀ n : Nat, ∀ (x1 : Int32) (x2 : Int32) (x3 : Int32) (x4 : Int32) (x5 : Int32) (σ : xx_S) (H : Heap) (locs : List Loc) (ls : Array Slot), xxw_alone_8 Q n x1 x2 x3 x4 x5 σ → xx_W D E A ad sk σ s H → va_S A s.heap H locs → lv_has ls 8 [(0, .ref (ad 0)), (1, .int x1), (2, .int x2), (3, .int x3), (4, .int x4), (5, .int x5)] → W p l e xxr_alone s m args below meth c H locs 0 0 (MQ below (va_Qi Q (fun u t => xx_W D E A ad sk u t t.heap) A) args s 0 0 A) (F0 m 8 ls []) := by
  obtain ⟨hx, hb, hml, hown, hts, hr, hlocks⟩ := id C0
  intro n
  induction n with
  | zero =>
    intro x1 x2 x3 x4 x5 σ H locs ls hw hW hS hl
    exact absurd hw (by unfold xxw_alone_8; exact id)
  | succ n ih =>
    intro x1 x2 x3 x4 x5 σ H locs ls hw hW hS hl
    unfold xxw_alone_8 at hw
    refine lv_iload hx hb dX0_alone_8 (lv_at hl 5 rfl) ?_
    refine lv_aload_n hx hb dX0_alone_10 rfl (lv_at hl 0 rfl) ?_
    refine xx_geti hx hb hts hown hW 1 (by decide) q745 dX0_alone_11 ?_
    refine lv_icmp_ge (tgt := 78) hx hb dX0_alone_14 (by decide) (fun c8 => ?_) (fun c8 => ?_)
    · have hw := hw.1 c8
      refine lv_iload_n hx hb dX0_alone_78 rfl (lv_at hl 2 rfl) ?_
      refine lv_if_eq (tgt := 86) hx hb dX0_alone_79 (by decide) (fun c1 => ?_) (fun c1 => ?_)
      · have hw := hw.1 c1
        refine lv_iload hx hb dX0_alone_86 (lv_at hl 4 rfl) ?_
        exact gg_iret (xx_mv D E A ad sk) C0 hW hS hw dX0_alone_88
      · have hw := hw.2 c1
        refine lv_iload_n hx hb dX0_alone_82 rfl (lv_at hl 3 rfl) ?_
        refine lv_goto (tgt := 88) hx hb dX0_alone_83 (by decide) ?_
        exact gg_iret (xx_mv D E A ad sk) C0 hW hS hw dX0_alone_88
    · have hw := hw.2 c8
      refine lv_aload_n hx hb dX0_alone_17 rfl (lv_at hl 0 rfl) ?_
      refine lv_iload hx hb dX0_alone_18 (lv_at hl 5 rfl) ?_
      refine lv_iload_n hx hb dX0_alone_20 rfl (lv_at hl 1 rfl) ?_
      refine lv_iconst (v := (0 : Int32)) hx hb dX0_alone_21 (by decide) ?_
      refine xx_WI ⟨hx, hb, hml, hown, hts⟩ hA (xxt_triesOf l _ _ _ _ hw) (vx_cwVW (hh := [(5, 59, 67, 0), (67, 69, 67, 0)]) 3 hts (lw_VW q962 q964 qs40 q103 q965) rfl rfl rfl cd_X0_triesOf ⟨Nat.le_of_ble_eq_true rfl, Nat.le_of_ble_eq_true rfl⟩) hW (xx_recv hW) hS rfl hl.1 rfl (Nat.le_of_ble_eq_true rfl) dX0_alone_22 (fun r3 σ2 H locs hw hW hS => ?_)
      refine lv_istore (lv' := [(6, .int r3), (0, .ref (ad 0)), (1, .int x1), (2, .int x2), (3, .int x3), (4, .int x4), (5, .int x5)]) hx hb dX0_alone_25 hl (by decide) rfl (fun ls hl => ?_)
      refine lv_iload_n hx hb dX0_alone_27 rfl (lv_at hl 4 rfl) ?_
      refine lv_iconst (v := (-1 : Int32)) hx hb dX0_alone_28 (by decide) ?_
      refine lv_icmp_eq (tgt := 39) hx hb dX0_alone_29 (by decide) (fun c7 => ?_) (fun c7 => ?_)
      · have hw := hw.1 c7
        exact xxk_alone_39  C0 hA (fun y0 y1 y2 y3 y4 τ H9 l9 s9 => ih y0 y1 y2 y3 y4 τ H9 l9 s9) x1 x2 x3 x4 x5 r3 σ2 _ _ _ hw hW hS (lv_sub hl [1, 2, 3, 4, 5, 6, 0] rfl)
      · have hw := hw.2 c7
        refine lv_iload hx hb dX0_alone_32 (lv_at hl 0 rfl) ?_
        refine lv_iload hx hb dX0_alone_34 (lv_at hl 5 rfl) ?_
        refine lv_icmp_le (tgt := 43) hx hb dX0_alone_36 (by decide) (fun c6 => ?_) (fun c6 => ?_)
        · have hw := hw.1 c6
          refine lv_iconst (v := (0 : Int32)) hx hb dX0_alone_43 (by decide) ?_
          exact xxk_alone_44  C0 hA (fun y0 y1 y2 y3 y4 τ H9 l9 s9 => ih y0 y1 y2 y3 y4 τ H9 l9 s9) x1 x2 x3 x4 x5 r3 (0 : Int32) σ2 _ _ _ hw hW hS (lv_sub hl [1, 2, 3, 4, 5, 6, 0] rfl)
        · have hw := hw.2 c6
          exact xxk_alone_39  C0 hA (fun y0 y1 y2 y3 y4 τ H9 l9 s9 => ih y0 y1 y2 y3 y4 τ H9 l9 s9) x1 x2 x3 x4 x5 r3 σ2 _ _ _ hw hW hS (lv_sub hl [1, 2, 3, 4, 5, 6, 0] rfl)
set_option maxHeartbeats 4000000 in
set_option maxRecDepth 100000 in
theorem xxt_alone (l : Launch) {D : va_G} {E : Nat → ClassId} {A : Nat → Prop} {ad sk : Nat → Nat}  (a1 : Int32) (a2 : Int32) (σ : xx_S) {Q : Int32 → xx_S → Prop} (hw : xxw_alone a1 a2 σ Q) :
    Met l yX0_alone (ws_ yX0_alone cX0_alone 8 (some .int)) xxr_alone (va_Pc [.ref (ad 0), .int a1, .int a2] (fun U => xx_V D E A ad sk σ U U.heap)) (va_Qi Q (fun u t => xx_W D E A ad sk u t t.heap) A) 0 0 A := by
  refine gg_entry (W0 := fun s H => xx_V D E A ad sk σ s H) (by decide) (Nat.le_of_ble_eq_true rfl) ?_
  intro p e s m args below meth c C0 hV ls hl
  have C0 : gg_C p s m args meth c RX0 cX0_alone 8 (some .int) := C0
  obtain ⟨hx, hb, hml, hown, hts, hr, hlocks⟩ := id C0
  have hl : lv_has ls 8 [(0, .ref (ad 0)), (1, .int a1), (2, .int a2)] := hl
  have hS : va_S A s.heap s.heap [] := va_S.rf
  have hA : xx_A sk A s := hV.2
  have hW : xx_W D E A ad sk σ s s.heap := hV.1
  unfold xxw_alone at hw
  refine lv_iconst (v := (-1 : Int32)) hx hb dX0_alone_0 (by decide) ?_
  refine lv_istore_n (lv' := [(3, .int (-1 : Int32)), (0, .ref (ad 0)), (1, .int a1), (2, .int a2)]) hx hb dX0_alone_1 rfl hl (by decide) rfl (fun ls hl => ?_)
  refine lv_iconst (v := (-1 : Int32)) hx hb dX0_alone_2 (by decide) ?_
  refine lv_istore (lv' := [(4, .int (-1 : Int32)), (3, .int (-1 : Int32)), (0, .ref (ad 0)), (1, .int a1), (2, .int a2)]) hx hb dX0_alone_3 hl (by decide) rfl (fun ls hl => ?_)
  refine lv_iconst (v := (0 : Int32)) hx hb dX0_alone_5 (by decide) ?_
  refine lv_istore (lv' := [(5, .int (0 : Int32)), (4, .int (-1 : Int32)), (3, .int (-1 : Int32)), (0, .ref (ad 0)), (1, .int a1), (2, .int a2)]) hx hb dX0_alone_6 hl (by decide) rfl (fun ls hl => ?_)
  obtain ⟨n9, hw⟩ := hw
  exact xxk_alone_8  C0 hA  n9 a1 a2 (-1 : Int32) (-1 : Int32) (0 : Int32) σ _ _ _ hw hW hS (lv_sub hl [3, 4, 5, 2, 1, 0] rfl)
theorem cd_X0_bare : yX0_bare.cls = RX0 ∧ yX0_bare.cls ≠ "java/lang/invoke/MethodHandle" ∧ yX0_bare.cls ≠ "java/lang/invoke/VarHandle" ∧ (parseMethodDescriptor yX0_bare.desc).map (fun d => d.parameters.length) = some 1 := by decide +kernel
/-! GleanersForGaps.bare(I)I -/
def xxw_bare_7  (Q : Int32 → xx_S → Prop)  : Nat → Int32 → Int32 → xx_S → Prop
  | 0, _, _, _ => False
  | n + 1, x1, x2, σ =>
    ((((20 : Int32) < x2) → (xxw_laysBack (0 : Int32) σ (fun σ2 => Q (-1 : Int32) σ2))) ∧ (¬ ((20 : Int32) < x2) → (xxw_gapsOf x1 σ (fun r4 σ3 => (((r4 = 0) → (xxw_laysBack (0 : Int32) σ3 (fun σ7 => Q x2 σ7))) ∧ (¬ (r4 = 0) → (xxw_allGlean x1 σ3 (fun σ5 => (xxw_passes σ5 (fun σ6 => xxw_bare_7 Q n x1 (x2 + (1 : Int32)) σ6))))))))))
def xxw_bare  (a1 : Int32) (σ : xx_S) (Q : Int32 → xx_S → Prop) : Prop :=
    (xxw_keeps (0 : Int32) σ (fun σ1 => ∃ k9, xxw_bare_7 Q k9 a1 (0 : Int32) σ1))
abbrev xxr_bare : Room := { frames := 207, cells := 0, slots := 0, locals := 6124 }
set_option maxHeartbeats 4000000 in
set_option maxRecDepth 100000 in
theorem xxk_bare_7 {p : Program} {l : Launch} {e : Env} {s : State} {m : MethodId} {args : Array Value} {below : List Frame} {meth : Method} {c : Code} {D : va_G} {E : Nat → ClassId} {A : Nat → Prop} {ad sk : Nat → Nat} {Q : Int32 → xx_S → Prop}   (C0 : gg_C p s m args meth c RX0 cX0_bare 5 (some .int)) (hA : xx_A sk A s) :
    ∀ n : Nat, ∀ (x1 : Int32) (x2 : Int32) (σ : xx_S) (H : Heap) (locs : List Loc) (ls : Array Slot), xxw_bare_7 Q n x1 x2 σ → xx_W D E A ad sk σ s H → va_S A s.heap H locs → lv_has ls 5 [(0, .ref (ad 0)), (1, .int x1), (2, .int x2)] → W p l e xxr_bare s m args below meth c H locs 0 0 (MQ below (va_Qi Q (fun u t => xx_W D E A ad sk u t t.heap) A) args s 0 0 A) (F0 m 7 ls []) := by
  obtain ⟨hx, hb, hml, hown, hts, hr, hlocks⟩ := id C0
  intro n
  induction n with
  | zero =>
    intro x1 x2 σ H locs ls hw hW hS hl
    exact absurd hw (by unfold xxw_bare_7; exact id)
  | succ n ih =>
    intro x1 x2 σ H locs ls hw hW hS hl
    unfold xxw_bare_7 at hw
    refine lv_iload_n hx hb dX0_bare_7 rfl (lv_at hl 2 rfl) ?_
    refine lv_bipush (v := (20 : Int32)) hx hb dX0_bare_8 (by decide) ?_
    refine lv_icmp_gt (tgt := 45) hx hb dX0_bare_10 (by decide) (fun c9 => ?_) (fun c9 => ?_)
    · have hw := hw.1 c9
      refine lv_iconst (v := (-1 : Int32)) hx hb dX0_bare_45 (by decide) ?_
      refine lv_istore_n (lv' := [(2, .int (-1 : Int32)), (0, .ref (ad 0)), (1, .int x1)]) hx hb dX0_bare_46 rfl hl (by decide) rfl (fun ls hl => ?_)
      refine lv_aload_n hx hb dX0_bare_47 rfl (lv_at hl 1 rfl) ?_
      refine lv_iconst (v := (0 : Int32)) hx hb dX0_bare_48 (by decide) ?_
      refine xx_VV ⟨hx, hb, hml, hown, hts⟩ hA (xxt_laysBack l _ _ hw) (cwV 1 hts (lw_V q973 q975 qs42 q103 q976) rfl rfl rfl cd_X0_laysBack ⟨Nat.le_of_ble_eq_true rfl, Nat.le_of_ble_eq_true rfl⟩) hW (xx_recv hW) hS rfl hl.1 rfl (Nat.le_of_ble_eq_true rfl) dX0_bare_49 (fun σ2 H locs hw hW hS => ?_)
      refine lv_iload_n hx hb dX0_bare_52 rfl (lv_at hl 0 rfl) ?_
      exact gg_iret (xx_mv D E A ad sk) C0 hW hS hw dX0_bare_53
    · have hw := hw.2 c9
      refine lv_aload_n hx hb dX0_bare_13 rfl (lv_at hl 0 rfl) ?_
      refine lv_iload_n hx hb dX0_bare_14 rfl (lv_at hl 1 rfl) ?_
      refine xx_VI ⟨hx, hb, hml, hown, hts⟩ hA (xxt_gapsOf l _ _ hw) (cwV 1 hts (lw_V q225 q227 qs0 q103 q229) rfl rfl rfl cd_X0_gapsOf ⟨Nat.le_of_ble_eq_true rfl, Nat.le_of_ble_eq_true rfl⟩) hW (xx_recv hW) hS rfl hl.1 rfl (Nat.le_of_ble_eq_true rfl) dX0_bare_15 (fun r4 σ3 H locs hw hW hS => ?_)
      refine lv_if_ne (tgt := 30) hx hb dX0_bare_18 (by decide) (fun c8 => ?_) (fun c8 => ?_)
      · have hw := hw.2 c8
        refine lv_aload_n hx hb dX0_bare_30 rfl (lv_at hl 0 rfl) ?_
        refine lv_iload_n hx hb dX0_bare_31 rfl (lv_at hl 1 rfl) ?_
        refine xx_VV ⟨hx, hb, hml, hown, hts⟩ hA (xxt_allGlean l _ _ hw) (cwV 1 hts (lw_V q982 q984 qs43 q103 q985) rfl rfl rfl cd_X0_allGlean ⟨Nat.le_of_ble_eq_true rfl, Nat.le_of_ble_eq_true rfl⟩) hW (xx_recv hW) hS rfl hl.1 rfl (Nat.le_of_ble_eq_true rfl) dX0_bare_32 (fun σ5 H locs hw hW hS => ?_)
        refine lv_aload_n hx hb dX0_bare_35 rfl (lv_at hl 0 rfl) ?_
        refine xx_VV ⟨hx, hb, hml, hown, hts⟩ hA (xxt_passes l _ hw) (cwV 0 hts (lw_V q950 q952 qs38 q103 q953) rfl rfl rfl cd_X0_passes ⟨Nat.le_of_ble_eq_true rfl, Nat.le_of_ble_eq_true rfl⟩) hW (xx_recv hW) hS rfl hl.1 rfl (Nat.le_of_ble_eq_true rfl) dX0_bare_36 (fun σ6 H locs hw hW hS => ?_)
        refine lv_iinc (v := (x2 + (1 : Int32))) (lv' := [(2, .int (x2 + (1 : Int32))), (0, .ref (ad 0)), (1, .int x1)]) hx hb dX0_bare_39 hl (k := 2) rfl rfl (by decide) rfl (fun ls hl => ?_)
        refine lv_goto (tgt := 7) hx hb dX0_bare_42 (by decide) ?_
        exact ih x1 (x2 + (1 : Int32)) σ6 _ _ _ hw hW hS (lv_sub hl [1, 2, 0] rfl)
      · have hw := hw.1 c8
        refine lv_iload_n hx hb dX0_bare_21 rfl (lv_at hl 2 rfl) ?_
        refine lv_istore_n (lv' := [(3, .int x2), (0, .ref (ad 0)), (1, .int x1), (2, .int x2)]) hx hb dX0_bare_22 rfl hl (by decide) rfl (fun ls hl => ?_)
        refine lv_aload_n hx hb dX0_bare_23 rfl (lv_at hl 1 rfl) ?_
        refine lv_iconst (v := (0 : Int32)) hx hb dX0_bare_24 (by decide) ?_
        refine xx_VV ⟨hx, hb, hml, hown, hts⟩ hA (xxt_laysBack l _ _ hw) (cwV 1 hts (lw_V q973 q975 qs42 q103 q976) rfl rfl rfl cd_X0_laysBack ⟨Nat.le_of_ble_eq_true rfl, Nat.le_of_ble_eq_true rfl⟩) hW (xx_recv hW) hS rfl hl.1 rfl (Nat.le_of_ble_eq_true rfl) dX0_bare_25 (fun σ7 H locs hw hW hS => ?_)
        refine lv_iload_n hx hb dX0_bare_28 rfl (lv_at hl 0 rfl) ?_
        exact gg_iret (xx_mv D E A ad sk) C0 hW hS hw dX0_bare_29
set_option maxHeartbeats 4000000 in
set_option maxRecDepth 100000 in
theorem xxt_bare (l : Launch) {D : va_G} {E : Nat → ClassId} {A : Nat → Prop} {ad sk : Nat → Nat}  (a1 : Int32) (σ : xx_S) {Q : Int32 → xx_S → Prop} (hw : xxw_bare a1 σ Q) :
    Met l yX0_bare (wsW_ yX0_bare cX0_bare 5 (some .int) [(5, 23, 54, 0), (30, 47, 54, 0), (54, 56, 54, 0)]) xxr_bare (va_Pc [.ref (ad 0), .int a1] (fun U => xx_V D E A ad sk σ U U.heap)) (va_Qi Q (fun u t => xx_W D E A ad sk u t t.heap) A) 0 0 A := by
  refine gg_entryW (W0 := fun s H => xx_V D E A ad sk σ s H) (by decide) (Nat.le_of_ble_eq_true rfl) ?_
  intro p e s m args below meth c C0 hV ls hl
  have C0 : gg_C p s m args meth c RX0 cX0_bare 5 (some .int) := C0
  obtain ⟨hx, hb, hml, hown, hts, hr, hlocks⟩ := id C0
  have hl : lv_has ls 5 [(0, .ref (ad 0)), (1, .int a1)] := hl
  have hS : va_S A s.heap s.heap [] := va_S.rf
  have hA : xx_A sk A s := hV.2
  have hW : xx_W D E A ad sk σ s s.heap := hV.1
  unfold xxw_bare at hw
  refine lv_aload_n hx hb dX0_bare_0 rfl (lv_at hl 0 rfl) ?_
  refine lv_iconst (v := (0 : Int32)) hx hb dX0_bare_1 (by decide) ?_
  refine xx_VV ⟨hx, hb, hml, hown, hts⟩ hA (xxt_keeps l _ _ hw) (cwV 1 hts (lw_V q966 q968 qs41 q103 q969) rfl rfl rfl cd_X0_keeps ⟨Nat.le_of_ble_eq_true rfl, Nat.le_of_ble_eq_true rfl⟩) hW (xx_recv hW) hS rfl hl.1 rfl (Nat.le_of_ble_eq_true rfl) dX0_bare_2 (fun σ1 H locs hw hW hS => ?_)
  refine lv_iconst (v := (0 : Int32)) hx hb dX0_bare_5 (by decide) ?_
  refine lv_istore_n (lv' := [(2, .int (0 : Int32)), (0, .ref (ad 0)), (1, .int a1)]) hx hb dX0_bare_6 rfl hl (by decide) rfl (fun ls hl => ?_)
  obtain ⟨n9, hw⟩ := hw
  exact xxk_bare_7  C0 hA  n9 a1 (0 : Int32) σ1 _ _ _ hw hW hS (lv_sub hl [1, 2, 0] rfl)
theorem cd_X0_best : yX0_best.cls = RX0 ∧ yX0_best.cls ≠ "java/lang/invoke/MethodHandle" ∧ yX0_best.cls ≠ "java/lang/invoke/VarHandle" ∧ (parseMethodDescriptor yX0_best.desc).map (fun d => d.parameters.length) = some 2 := by decide +kernel
/-! GleanersForGaps.best(II)I -/
def xxw_best_91  (Q : Int32 → xx_S → Prop)  (s1 : Int32) (s2 : Int32) (σ : xx_S) : Prop :=
    (xxw_alone s1 s2 σ (fun r12 σ11 => Q r12 σ11))
def xxw_best  (a1 : Int32) (a2 : Int32) (σ : xx_S) (Q : Int32 → xx_S → Prop) : Prop :=
    (xxw_isRow a1 σ (fun r2 σ1 => (((r2 = 0) → Q (-1000 : Int32) σ1) ∧ (¬ (r2 = 0) → (xxw_in ((a2).toInt64) (0 : Int64) (4 : Int64) σ1 (fun r4 σ3 => (((r4 = 0) → Q (-1000 : Int32) σ3) ∧ (¬ (r4 = 0) → ((a2 = (0 : Int32) → (xxw_goesThrough (-1 : Int32) a1 σ3 (fun σ5 => (((a2 = 0) → Q (xx_g σ5 0 32) σ5) ∧ (¬ (a2 = 0) → Q (-(xx_g σ5 0 33)) σ5))))) ∧ (a2 = (1 : Int32) → (xxw_goesThrough (-1 : Int32) a1 σ3 (fun σ8 => (((a2 = 0) → Q (xx_g σ8 0 32) σ8) ∧ (¬ (a2 = 0) → Q (-(xx_g σ8 0 33)) σ8))))) ∧ (a2 = (2 : Int32) → (((a2 = (2 : Int32)) → xxw_best_91 Q a1 (1 : Int32) σ3) ∧ (¬ (a2 = (2 : Int32)) → xxw_best_91 Q a1 (0 : Int32) σ3))) ∧ (a2 = (3 : Int32) → (((a2 = (2 : Int32)) → xxw_best_91 Q a1 (1 : Int32) σ3) ∧ (¬ (a2 = (2 : Int32)) → xxw_best_91 Q a1 (0 : Int32) σ3))) ∧ (¬ a2 = (0 : Int32) ∧ ¬ a2 = (1 : Int32) ∧ ¬ a2 = (2 : Int32) ∧ ¬ a2 = (3 : Int32) → (xxw_bare a1 σ3 (fun r18 σ17 => Q r18 σ17))))))))))))
abbrev xxr_best : Room := { frames := 214, cells := 0, slots := 0, locals := 6320 }
set_option maxHeartbeats 4000000 in
set_option maxRecDepth 100000 in
theorem xxk_best_91 {p : Program} {l : Launch} {e : Env} {s : State} {m : MethodId} {args : Array Value} {below : List Frame} {meth : Method} {c : Code} {D : va_G} {E : Nat → ClassId} {A : Nat → Prop} {ad sk : Nat → Nat} {Q : Int32 → xx_S → Prop}   (C0 : gg_C p s m args meth c RX0 cX0_best 3 (some .int)) (hA : xx_A sk A s) :
    ∀ (s1 : Int32) (s2 : Int32) (σ : xx_S) (H : Heap) (locs : List Loc) (ls : Array Slot), xxw_best_91 Q s1 s2 σ → xx_W D E A ad sk σ s H → va_S A s.heap H locs → lv_has ls 3 [(0, .ref (ad 0))] → W p l e xxr_best s m args below meth c H locs 0 0 (MQ below (va_Qi Q (fun u t => xx_W D E A ad sk u t t.heap) A) args s 0 0 A) (F0 m 91 ls [.int s2, .int s1, .ref (ad 0)]) := by
  obtain ⟨hx, hb, hml, hown, hts, hr, hlocks⟩ := id C0
  intro s1 s2 σ H locs ls hw hW hS hl
  unfold xxw_best_91 at hw
  refine xx_VI ⟨hx, hb, hml, hown, hts⟩ hA (xxt_alone l _ _ _ hw) (cwV 2 hts (lw_V q1002 q1004 qs46 q103 q1005) rfl rfl rfl cd_X0_alone ⟨Nat.le_of_ble_eq_true rfl, Nat.le_of_ble_eq_true rfl⟩) hW (xx_recv hW) hS rfl hl.1 rfl (Nat.le_of_ble_eq_true rfl) dX0_best_91 (fun r12 σ11 H locs hw hW hS => ?_)
  exact gg_iret (xx_mv D E A ad sk) C0 hW hS hw dX0_best_94
set_option maxHeartbeats 4000000 in
set_option maxRecDepth 100000 in
theorem xxt_best (l : Launch) {D : va_G} {E : Nat → ClassId} {A : Nat → Prop} {ad sk : Nat → Nat}  (a1 : Int32) (a2 : Int32) (σ : xx_S) {Q : Int32 → xx_S → Prop} (hw : xxw_best a1 a2 σ Q) :
    Met l yX0_best (ws_ yX0_best cX0_best 3 (some .int)) xxr_best (va_Pc [.ref (ad 0), .int a1, .int a2] (fun U => xx_V D E A ad sk σ U U.heap)) (va_Qi Q (fun u t => xx_W D E A ad sk u t t.heap) A) 0 0 A := by
  refine gg_entry (W0 := fun s H => xx_V D E A ad sk σ s H) (by decide) (Nat.le_of_ble_eq_true rfl) ?_
  intro p e s m args below meth c C0 hV ls hl
  have C0 : gg_C p s m args meth c RX0 cX0_best 3 (some .int) := C0
  obtain ⟨hx, hb, hml, hown, hts, hr, hlocks⟩ := id C0
  have hl : lv_has ls 3 [(0, .ref (ad 0)), (1, .int a1), (2, .int a2)] := hl
  have hS : va_S A s.heap s.heap [] := va_S.rf
  have hA : xx_A sk A s := hV.2
  have hW : xx_W D E A ad sk σ s s.heap := hV.1
  unfold xxw_best at hw
  refine lv_iload_n hx hb dX0_best_0 rfl (lv_at hl 1 rfl) ?_
  refine xx_SI ⟨hx, hb, hml, hown, hts⟩ hA (xxt_isRow l _ _ hw) (va_cwS 1 hts (lw_S q220 q221 q103 q222) rfl rfl rfl cd_X0_isRow.2 ⟨Nat.le_of_ble_eq_true rfl, Nat.le_of_ble_eq_true rfl⟩) hW hS rfl hl.1 rfl (Nat.le_of_ble_eq_true rfl) dX0_best_1 (fun r2 σ1 H locs hw hW hS => ?_)
  obtain ⟨hz_r2, hw⟩ := hw
  refine lv_if_eq (tgt := 19) hx hb dX0_best_4 (by decide) (fun c20 => ?_) (fun c20 => ?_)
  · have hw := hw.1 c20
    refine lv_sipush (v := (-1000 : Int32)) hx hb dX0_best_19 (by decide) ?_
    exact gg_iret (xx_mv D E A ad sk) C0 hW hS hw dX0_best_22
  · have hw := hw.2 c20
    refine lv_iload_n hx hb dX0_best_7 rfl (lv_at hl 2 rfl) ?_
    refine lv_i2l (v := (a2).toInt64) hx hb dX0_best_8 rfl ?_
    refine lv_lconst (v := (0 : Int64)) hx hb dX0_best_9 (by decide) ?_
    refine lv_ldc2 (own := RX0) (v := (4 : Int64)) hx hb hown (hts _ q311) dX0_best_10 ?_
    refine xx_SI ⟨hx, hb, hml, hown, hts⟩ hA (xxt_in l _ _ _ _ hw) (va_cwS 3 hts (lw_S q139 q140 q103 q141) rfl rfl rfl cd_X0_in.2 ⟨Nat.le_of_ble_eq_true rfl, Nat.le_of_ble_eq_true rfl⟩) hW hS rfl hl.1 rfl (Nat.le_of_ble_eq_true rfl) dX0_best_13 (fun r4 σ3 H locs hw hW hS => ?_)
    obtain ⟨hz_r4, hw⟩ := hw
    refine lv_if_ne (tgt := 23) hx hb dX0_best_16 (by decide) (fun c19 => ?_) (fun c19 => ?_)
    · have hw := hw.2 c19
      refine lv_iload_n hx hb dX0_best_23 rfl (lv_at hl 2 rfl) ?_
      by_cases e7 : a2 = (0 : Int32)
      · obtain ⟨hw, -⟩ := hw
        have hw := hw e7
        refine lv_tableIn (off := 32) (tgt := 56) hx hb dX0_best_24 (by rw [e7]; decide) (by rw [e7]; decide) (by rw [e7]; rfl) (by decide) ?_
        refine lv_aload_n hx hb dX0_best_56 rfl (lv_at hl 0 rfl) ?_
        refine lv_iconst (v := (-1 : Int32)) hx hb dX0_best_57 (by decide) ?_
        refine lv_iload_n hx hb dX0_best_58 rfl (lv_at hl 1 rfl) ?_
        refine xx_VV ⟨hx, hb, hml, hown, hts⟩ hA (xxt_goesThrough l _ _ _ hw) (cwV 2 hts (lw_V q990 q992 qs44 q103 q993) rfl rfl rfl cd_X0_goesThrough ⟨Nat.le_of_ble_eq_true rfl, Nat.le_of_ble_eq_true rfl⟩) hW (xx_recv hW) hS rfl hl.1 rfl (Nat.le_of_ble_eq_true rfl) dX0_best_59 (fun σ5 H locs hw hW hS => ?_)
        refine lv_iload_n hx hb dX0_best_62 rfl (lv_at hl 2 rfl) ?_
        refine lv_if_ne (tgt := 73) hx hb dX0_best_63 (by decide) (fun c6 => ?_) (fun c6 => ?_)
        · have hw := hw.2 c6
          refine lv_aload_n hx hb dX0_best_73 rfl (lv_at hl 0 rfl) ?_
          refine xx_geti hx hb hts hown hW 33 (by decide) q783 dX0_best_74 ?_
          refine lv_ineg hx hb dX0_best_77 ?_
          exact gg_iret (xx_mv D E A ad sk) C0 hW hS hw dX0_best_78
        · have hw := hw.1 c6
          refine lv_aload_n hx hb dX0_best_66 rfl (lv_at hl 0 rfl) ?_
          refine xx_geti hx hb hts hown hW 32 (by decide) q782 dX0_best_67 ?_
          refine lv_goto (tgt := 78) hx hb dX0_best_70 (by decide) ?_
          exact gg_iret (xx_mv D E A ad sk) C0 hW hS hw dX0_best_78
      obtain ⟨-, hw⟩ := hw
      by_cases e10 : a2 = (1 : Int32)
      · obtain ⟨hw, -⟩ := hw
        have hw := hw e10
        refine lv_tableIn (off := 32) (tgt := 56) hx hb dX0_best_24 (by rw [e10]; decide) (by rw [e10]; decide) (by rw [e10]; rfl) (by decide) ?_
        refine lv_aload_n hx hb dX0_best_56 rfl (lv_at hl 0 rfl) ?_
        refine lv_iconst (v := (-1 : Int32)) hx hb dX0_best_57 (by decide) ?_
        refine lv_iload_n hx hb dX0_best_58 rfl (lv_at hl 1 rfl) ?_
        refine xx_VV ⟨hx, hb, hml, hown, hts⟩ hA (xxt_goesThrough l _ _ _ hw) (cwV 2 hts (lw_V q990 q992 qs44 q103 q993) rfl rfl rfl cd_X0_goesThrough ⟨Nat.le_of_ble_eq_true rfl, Nat.le_of_ble_eq_true rfl⟩) hW (xx_recv hW) hS rfl hl.1 rfl (Nat.le_of_ble_eq_true rfl) dX0_best_59 (fun σ8 H locs hw hW hS => ?_)
        refine lv_iload_n hx hb dX0_best_62 rfl (lv_at hl 2 rfl) ?_
        refine lv_if_ne (tgt := 73) hx hb dX0_best_63 (by decide) (fun c9 => ?_) (fun c9 => ?_)
        · have hw := hw.2 c9
          refine lv_aload_n hx hb dX0_best_73 rfl (lv_at hl 0 rfl) ?_
          refine xx_geti hx hb hts hown hW 33 (by decide) q783 dX0_best_74 ?_
          refine lv_ineg hx hb dX0_best_77 ?_
          exact gg_iret (xx_mv D E A ad sk) C0 hW hS hw dX0_best_78
        · have hw := hw.1 c9
          refine lv_aload_n hx hb dX0_best_66 rfl (lv_at hl 0 rfl) ?_
          refine xx_geti hx hb hts hown hW 32 (by decide) q782 dX0_best_67 ?_
          refine lv_goto (tgt := 78) hx hb dX0_best_70 (by decide) ?_
          exact gg_iret (xx_mv D E A ad sk) C0 hW hS hw dX0_best_78
      obtain ⟨-, hw⟩ := hw
      by_cases e14 : a2 = (2 : Int32)
      · obtain ⟨hw, -⟩ := hw
        have hw := hw e14
        refine lv_tableIn (off := 55) (tgt := 79) hx hb dX0_best_24 (by rw [e14]; decide) (by rw [e14]; decide) (by rw [e14]; rfl) (by decide) ?_
        refine lv_aload_n hx hb dX0_best_79 rfl (lv_at hl 0 rfl) ?_
        refine lv_iload_n hx hb dX0_best_80 rfl (lv_at hl 1 rfl) ?_
        refine lv_iload_n hx hb dX0_best_81 rfl (lv_at hl 2 rfl) ?_
        refine lv_iconst (v := (2 : Int32)) hx hb dX0_best_82 (by decide) ?_
        refine lv_icmp_ne (tgt := 90) hx hb dX0_best_83 (by decide) (fun c13 => ?_) (fun c13 => ?_)
        · have hw := hw.2 c13
          refine lv_iconst (v := (0 : Int32)) hx hb dX0_best_90 (by decide) ?_
          exact xxk_best_91  C0 hA  a1 (0 : Int32) σ3 _ _ _ hw hW hS (lv_sub hl [0] rfl)
        · have hw := hw.1 c13
          refine lv_iconst (v := (1 : Int32)) hx hb dX0_best_86 (by decide) ?_
          refine lv_goto (tgt := 91) hx hb dX0_best_87 (by decide) ?_
          exact xxk_best_91  C0 hA  a1 (1 : Int32) σ3 _ _ _ hw hW hS (lv_sub hl [0] rfl)
      obtain ⟨-, hw⟩ := hw
      by_cases e16 : a2 = (3 : Int32)
      · obtain ⟨hw, -⟩ := hw
        have hw := hw e16
        refine lv_tableIn (off := 55) (tgt := 79) hx hb dX0_best_24 (by rw [e16]; decide) (by rw [e16]; decide) (by rw [e16]; rfl) (by decide) ?_
        refine lv_aload_n hx hb dX0_best_79 rfl (lv_at hl 0 rfl) ?_
        refine lv_iload_n hx hb dX0_best_80 rfl (lv_at hl 1 rfl) ?_
        refine lv_iload_n hx hb dX0_best_81 rfl (lv_at hl 2 rfl) ?_
        refine lv_iconst (v := (2 : Int32)) hx hb dX0_best_82 (by decide) ?_
        refine lv_icmp_ne (tgt := 90) hx hb dX0_best_83 (by decide) (fun c15 => ?_) (fun c15 => ?_)
        · have hw := hw.2 c15
          refine lv_iconst (v := (0 : Int32)) hx hb dX0_best_90 (by decide) ?_
          exact xxk_best_91  C0 hA  a1 (0 : Int32) σ3 _ _ _ hw hW hS (lv_sub hl [0] rfl)
        · have hw := hw.1 c15
          refine lv_iconst (v := (1 : Int32)) hx hb dX0_best_86 (by decide) ?_
          refine lv_goto (tgt := 91) hx hb dX0_best_87 (by decide) ?_
          exact xxk_best_91  C0 hA  a1 (1 : Int32) σ3 _ _ _ hw hW hS (lv_sub hl [0] rfl)
      obtain ⟨-, hw⟩ := hw
      have hw := hw ⟨e7, e10, e14, e16⟩
      refine lv_tableOut (tgt := 95) hx hb dX0_best_24 (gg_swout (lo := 0) (hi := 3) (by decide) (by decide) (fun v h1 h2 => ?_)) (by decide) ?_
      · have hv : v = 0 ∨ v = 1 ∨ v = 2 ∨ v = 3 := by omega
        rcases hv with h | h | h | h <;> subst h
        · exact e7
        · exact e10
        · exact e14
        · exact e16
      refine lv_aload_n hx hb dX0_best_95 rfl (lv_at hl 0 rfl) ?_
      refine lv_iload_n hx hb dX0_best_96 rfl (lv_at hl 1 rfl) ?_
      refine xx_WI ⟨hx, hb, hml, hown, hts⟩ hA (xxt_bare l _ _ hw) (vx_cwVW (hh := [(5, 23, 54, 0), (30, 47, 54, 0), (54, 56, 54, 0)]) 1 hts (lw_VW q1006 q1008 qs47 q103 q1009) rfl rfl rfl cd_X0_bare ⟨Nat.le_of_ble_eq_true rfl, Nat.le_of_ble_eq_true rfl⟩) hW (xx_recv hW) hS rfl hl.1 rfl (Nat.le_of_ble_eq_true rfl) dX0_best_97 (fun r18 σ17 H locs hw hW hS => ?_)
      exact gg_iret (xx_mv D E A ad sk) C0 hW hS hw dX0_best_100
    · have hw := hw.1 c19
      refine lv_sipush (v := (-1000 : Int32)) hx hb dX0_best_19 (by decide) ?_
      exact gg_iret (xx_mv D E A ad sk) C0 hW hS hw dX0_best_22
theorem cd_X0_rowFor : yX0_rowFor.cls = RX0 ∧ yX0_rowFor.cls ≠ "java/lang/invoke/MethodHandle" ∧ yX0_rowFor.cls ≠ "java/lang/invoke/VarHandle" ∧ (parseMethodDescriptor yX0_rowFor.desc).map (fun d => d.parameters.length) = some 2 := by decide +kernel
/-! GleanersForGaps.rowFor(II)I -/
def xxw_rowFor_65  (Q : Int32 → xx_S → Prop) (K36 : Int32 → Int32 → Int32 → Int32 → Int32 → xx_S → Prop) (x1 : Int32) (x2 : Int32) (x4 : Int32) (x5 : Int32) (x6 : Int32) (s0 : Int32) (σ : xx_S) : Prop :=
    K36 x1 x2 s0 (if x4 < x6 then x6 else x4) (x5 + (1 : Int32)) σ
def xxw_rowFor_36  (Q : Int32 → xx_S → Prop)  : Nat → Int32 → Int32 → Int32 → Int32 → Int32 → xx_S → Prop
  | 0, _, _, _, _, _, _ => False
  | n + 1, x1, x2, x3, x4, x5, σ =>
    ((((4 : Int32) ≤ x5) → (((x2 = 0) → Q x3 σ) ∧ (¬ (x2 = 0) → Q x4 σ))) ∧ (¬ ((4 : Int32) ≤ x5) → (xxw_triesOf x1 x5 (0 : Int32) σ (fun r9 σ8 => (((r9 ≤ x4) → xxw_rowFor_65 Q (fun y0 y1 y2 y3 y4 τ => xxw_rowFor_36 Q n y0 y1 y2 y3 y4 τ) x1 x2 x4 x5 r9 x3 σ8) ∧ (¬ (r9 ≤ x4) → xxw_rowFor_65 Q (fun y0 y1 y2 y3 y4 τ => xxw_rowFor_36 Q n y0 y1 y2 y3 y4 τ) x1 x2 x4 x5 r9 x5 σ8))))))
def xxw_rowFor  (a1 : Int32) (a2 : Int32) (σ : xx_S) (Q : Int32 → xx_S → Prop) : Prop :=
    (xxw_isOne a1 σ (fun r2 σ1 => (((r2 = 0) → Q (-1000 : Int32) σ1) ∧ (¬ (r2 = 0) → (xxw_in ((a2).toInt64) (0 : Int64) (1 : Int64) σ1 (fun r4 σ3 => (((r4 = 0) → Q (-1000 : Int32) σ3) ∧ (¬ (r4 = 0) → (xxw_triesOf a1 (0 : Int32) (0 : Int32) σ3 (fun r6 σ5 => ∃ k9, xxw_rowFor_36 Q k9 a1 a2 (0 : Int32) r6 (1 : Int32) σ5))))))))))
abbrev xxr_rowFor : Room := { frames := 207, cells := 0, slots := 0, locals := 6128 }
set_option maxHeartbeats 4000000 in
set_option maxRecDepth 100000 in
theorem xxk_rowFor_65 {p : Program} {l : Launch} {e : Env} {s : State} {m : MethodId} {args : Array Value} {below : List Frame} {meth : Method} {c : Code} {D : va_G} {E : Nat → ClassId} {A : Nat → Prop} {ad sk : Nat → Nat} {Q : Int32 → xx_S → Prop} {K36 : Int32 → Int32 → Int32 → Int32 → Int32 → xx_S → Prop}  (C0 : gg_C p s m args meth c RX0 cX0_rowFor 7 (some .int)) (hA : xx_A sk A s) (hK36 : ∀ (x1 : Int32) (x2 : Int32) (x3 : Int32) (x4 : Int32) (x5 : Int32) (σ : xx_S) (H : Heap) (locs : List Loc) (ls : Array Slot), K36 x1 x2 x3 x4 x5 σ → xx_W D E A ad sk σ s H → va_S A s.heap H locs → lv_has ls 7 [(0, .ref (ad 0)), (1, .int x1), (2, .int x2), (3, .int x3), (4, .int x4), (5, .int x5)] → W p l e xxr_rowFor s m args below meth c H locs 0 0 (MQ below (va_Qi Q (fun u t => xx_W D E A ad sk u t t.heap) A) args s 0 0 A) (F0 m 36 ls [])) :
    ∀ (x1 : Int32) (x2 : Int32) (x4 : Int32) (x5 : Int32) (x6 : Int32) (s0 : Int32) (σ : xx_S) (H : Heap) (locs : List Loc) (ls : Array Slot), xxw_rowFor_65 Q K36 x1 x2 x4 x5 x6 s0 σ → xx_W D E A ad sk σ s H → va_S A s.heap H locs → lv_has ls 7 [(0, .ref (ad 0)), (1, .int x1), (2, .int x2), (4, .int x4), (5, .int x5), (6, .int x6)] → W p l e xxr_rowFor s m args below meth c H locs 0 0 (MQ below (va_Qi Q (fun u t => xx_W D E A ad sk u t t.heap) A) args s 0 0 A) (F0 m 65 ls [.int s0]) := by
  obtain ⟨hx, hb, hml, hown, hts, hr, hlocks⟩ := id C0
  intro x1 x2 x4 x5 x6 s0 σ H locs ls hw hW hS hl
  unfold xxw_rowFor_65 at hw
  refine lv_istore_n (lv' := [(3, .int s0), (0, .ref (ad 0)), (1, .int x1), (2, .int x2), (4, .int x4), (5, .int x5), (6, .int x6)]) hx hb dX0_rowFor_65 rfl hl (by decide) rfl (fun ls hl => ?_)
  refine lv_iload hx hb dX0_rowFor_66 (lv_at hl 4 rfl) ?_
  refine lv_iload hx hb dX0_rowFor_68 (lv_at hl 6 rfl) ?_
  refine va_mmax hx hb (hml.trans hl.1.symm) hown (hts _ q273) (hts _ q274) (hts _ q113) (hts _ q275) (Nat.le_of_ble_eq_true rfl) (Nat.le_of_ble_eq_true rfl) (Nat.zero_le _) (Nat.zero_le _) dX0_rowFor_70 ?_
  refine lv_istore (lv' := [(4, .int (if x4 < x6 then x6 else x4)), (3, .int s0), (0, .ref (ad 0)), (1, .int x1), (2, .int x2), (5, .int x5), (6, .int x6)]) hx hb dX0_rowFor_73 hl (by decide) rfl (fun ls hl => ?_)
  refine lv_iinc (v := (x5 + (1 : Int32))) (lv' := [(5, .int (x5 + (1 : Int32))), (4, .int (if x4 < x6 then x6 else x4)), (3, .int s0), (0, .ref (ad 0)), (1, .int x1), (2, .int x2), (6, .int x6)]) hx hb dX0_rowFor_75 hl (k := 5) rfl rfl (by decide) rfl (fun ls hl => ?_)
  refine lv_goto (tgt := 36) hx hb dX0_rowFor_78 (by decide) ?_
  exact hK36 x1 x2 s0 (if x4 < x6 then x6 else x4) (x5 + (1 : Int32)) σ _ _ _ hw hW hS (lv_sub hl [3, 4, 5, 2, 1, 0] rfl)
set_option maxHeartbeats 4000000 in
set_option maxRecDepth 100000 in
theorem xxk_rowFor_36 {p : Program} {l : Launch} {e : Env} {s : State} {m : MethodId} {args : Array Value} {below : List Frame} {meth : Method} {c : Code} {D : va_G} {E : Nat → ClassId} {A : Nat → Prop} {ad sk : Nat → Nat} {Q : Int32 → xx_S → Prop}   (C0 : gg_C p s m args meth c RX0 cX0_rowFor 7 (some .int)) (hA : xx_A sk A s) :
    ∀ n : Nat, ∀ (x1 : Int32) (x2 : Int32) (x3 : Int32) (x4 : Int32) (x5 : Int32) (σ : xx_S) (H : Heap) (locs : List Loc) (ls : Array Slot), xxw_rowFor_36 Q n x1 x2 x3 x4 x5 σ → xx_W D E A ad sk σ s H → va_S A s.heap H locs → lv_has ls 7 [(0, .ref (ad 0)), (1, .int x1), (2, .int x2), (3, .int x3), (4, .int x4), (5, .int x5)] → W p l e xxr_rowFor s m args below meth c H locs 0 0 (MQ below (va_Qi Q (fun u t => xx_W D E A ad sk u t t.heap) A) args s 0 0 A) (F0 m 36 ls []) := by
  obtain ⟨hx, hb, hml, hown, hts, hr, hlocks⟩ := id C0
  intro n
  induction n with
  | zero =>
    intro x1 x2 x3 x4 x5 σ H locs ls hw hW hS hl
    exact absurd hw (by unfold xxw_rowFor_36; exact id)
  | succ n ih =>
    intro x1 x2 x3 x4 x5 σ H locs ls hw hW hS hl
    unfold xxw_rowFor_36 at hw
    refine lv_iload hx hb dX0_rowFor_36 (lv_at hl 5 rfl) ?_
    refine lv_iconst (v := (4 : Int32)) hx hb dX0_rowFor_38 (by decide) ?_
    refine lv_icmp_ge (tgt := 81) hx hb dX0_rowFor_39 (by decide) (fun c11 => ?_) (fun c11 => ?_)
    · have hw := hw.1 c11
      refine lv_iload_n hx hb dX0_rowFor_81 rfl (lv_at hl 2 rfl) ?_
      refine lv_if_ne (tgt := 89) hx hb dX0_rowFor_82 (by decide) (fun c7 => ?_) (fun c7 => ?_)
      · have hw := hw.2 c7
        refine lv_iload hx hb dX0_rowFor_89 (lv_at hl 4 rfl) ?_
        exact gg_iret (xx_mv D E A ad sk) C0 hW hS hw dX0_rowFor_91
      · have hw := hw.1 c7
        refine lv_iload_n hx hb dX0_rowFor_85 rfl (lv_at hl 3 rfl) ?_
        refine lv_goto (tgt := 91) hx hb dX0_rowFor_86 (by decide) ?_
        exact gg_iret (xx_mv D E A ad sk) C0 hW hS hw dX0_rowFor_91
    · have hw := hw.2 c11
      refine lv_aload_n hx hb dX0_rowFor_42 rfl (lv_at hl 0 rfl) ?_
      refine lv_iload_n hx hb dX0_rowFor_43 rfl (lv_at hl 1 rfl) ?_
      refine lv_iload hx hb dX0_rowFor_44 (lv_at hl 5 rfl) ?_
      refine lv_iconst (v := (0 : Int32)) hx hb dX0_rowFor_46 (by decide) ?_
      refine xx_WI ⟨hx, hb, hml, hown, hts⟩ hA (xxt_triesOf l _ _ _ _ hw) (vx_cwVW (hh := [(5, 59, 67, 0), (67, 69, 67, 0)]) 3 hts (lw_VW q962 q964 qs40 q103 q965) rfl rfl rfl cd_X0_triesOf ⟨Nat.le_of_ble_eq_true rfl, Nat.le_of_ble_eq_true rfl⟩) hW (xx_recv hW) hS rfl hl.1 rfl (Nat.le_of_ble_eq_true rfl) dX0_rowFor_47 (fun r9 σ8 H locs hw hW hS => ?_)
      refine lv_istore (lv' := [(6, .int r9), (0, .ref (ad 0)), (1, .int x1), (2, .int x2), (3, .int x3), (4, .int x4), (5, .int x5)]) hx hb dX0_rowFor_50 hl (by decide) rfl (fun ls hl => ?_)
      refine lv_iload hx hb dX0_rowFor_52 (lv_at hl 0 rfl) ?_
      refine lv_iload hx hb dX0_rowFor_54 (lv_at hl 5 rfl) ?_
      refine lv_icmp_le (tgt := 64) hx hb dX0_rowFor_56 (by decide) (fun c10 => ?_) (fun c10 => ?_)
      · have hw := hw.1 c10
        refine lv_iload_n hx hb dX0_rowFor_64 rfl (lv_at hl 4 rfl) ?_
        exact xxk_rowFor_65  C0 hA (fun y0 y1 y2 y3 y4 τ H9 l9 s9 => ih y0 y1 y2 y3 y4 τ H9 l9 s9) x1 x2 x4 x5 r9 x3 σ8 _ _ _ hw hW hS (lv_sub hl [1, 2, 3, 5, 6, 0] rfl)
      · have hw := hw.2 c10
        refine lv_iload hx hb dX0_rowFor_59 (lv_at hl 6 rfl) ?_
        refine lv_goto (tgt := 65) hx hb dX0_rowFor_61 (by decide) ?_
        exact xxk_rowFor_65  C0 hA (fun y0 y1 y2 y3 y4 τ H9 l9 s9 => ih y0 y1 y2 y3 y4 τ H9 l9 s9) x1 x2 x4 x5 r9 x5 σ8 _ _ _ hw hW hS (lv_sub hl [1, 2, 3, 5, 6, 0] rfl)
set_option maxHeartbeats 4000000 in
set_option maxRecDepth 100000 in
theorem xxt_rowFor (l : Launch) {D : va_G} {E : Nat → ClassId} {A : Nat → Prop} {ad sk : Nat → Nat}  (a1 : Int32) (a2 : Int32) (σ : xx_S) {Q : Int32 → xx_S → Prop} (hw : xxw_rowFor a1 a2 σ Q) :
    Met l yX0_rowFor (ws_ yX0_rowFor cX0_rowFor 7 (some .int)) xxr_rowFor (va_Pc [.ref (ad 0), .int a1, .int a2] (fun U => xx_V D E A ad sk σ U U.heap)) (va_Qi Q (fun u t => xx_W D E A ad sk u t t.heap) A) 0 0 A := by
  refine gg_entry (W0 := fun s H => xx_V D E A ad sk σ s H) (by decide) (Nat.le_of_ble_eq_true rfl) ?_
  intro p e s m args below meth c C0 hV ls hl
  have C0 : gg_C p s m args meth c RX0 cX0_rowFor 7 (some .int) := C0
  obtain ⟨hx, hb, hml, hown, hts, hr, hlocks⟩ := id C0
  have hl : lv_has ls 7 [(0, .ref (ad 0)), (1, .int a1), (2, .int a2)] := hl
  have hS : va_S A s.heap s.heap [] := va_S.rf
  have hA : xx_A sk A s := hV.2
  have hW : xx_W D E A ad sk σ s s.heap := hV.1
  unfold xxw_rowFor at hw
  refine lv_aload_n hx hb dX0_rowFor_0 rfl (lv_at hl 0 rfl) ?_
  refine lv_iload_n hx hb dX0_rowFor_1 rfl (lv_at hl 1 rfl) ?_
  refine xx_VI ⟨hx, hb, hml, hown, hts⟩ hA (xxt_isOne l _ _ hw) (cwV 1 hts (lw_V q245 q247 qs2 q103 q248) rfl rfl rfl cd_X0_isOne ⟨Nat.le_of_ble_eq_true rfl, Nat.le_of_ble_eq_true rfl⟩) hW (xx_recv hW) hS rfl hl.1 rfl (Nat.le_of_ble_eq_true rfl) dX0_rowFor_2 (fun r2 σ1 H locs hw hW hS => ?_)
  obtain ⟨hz_r2, hw⟩ := hw
  refine lv_if_eq (tgt := 18) hx hb dX0_rowFor_5 (by decide) (fun c13 => ?_) (fun c13 => ?_)
  · have hw := hw.1 c13
    refine lv_sipush (v := (-1000 : Int32)) hx hb dX0_rowFor_18 (by decide) ?_
    exact gg_iret (xx_mv D E A ad sk) C0 hW hS hw dX0_rowFor_21
  · have hw := hw.2 c13
    refine lv_iload_n hx hb dX0_rowFor_8 rfl (lv_at hl 2 rfl) ?_
    refine lv_i2l (v := (a2).toInt64) hx hb dX0_rowFor_9 rfl ?_
    refine lv_lconst (v := (0 : Int64)) hx hb dX0_rowFor_10 (by decide) ?_
    refine lv_lconst (v := (1 : Int64)) hx hb dX0_rowFor_11 (by decide) ?_
    refine xx_SI ⟨hx, hb, hml, hown, hts⟩ hA (xxt_in l _ _ _ _ hw) (va_cwS 3 hts (lw_S q139 q140 q103 q141) rfl rfl rfl cd_X0_in.2 ⟨Nat.le_of_ble_eq_true rfl, Nat.le_of_ble_eq_true rfl⟩) hW hS rfl hl.1 rfl (Nat.le_of_ble_eq_true rfl) dX0_rowFor_12 (fun r4 σ3 H locs hw hW hS => ?_)
    obtain ⟨hz_r4, hw⟩ := hw
    refine lv_if_ne (tgt := 22) hx hb dX0_rowFor_15 (by decide) (fun c12 => ?_) (fun c12 => ?_)
    · have hw := hw.2 c12
      refine lv_iconst (v := (0 : Int32)) hx hb dX0_rowFor_22 (by decide) ?_
      refine lv_istore_n (lv' := [(3, .int (0 : Int32)), (0, .ref (ad 0)), (1, .int a1), (2, .int a2)]) hx hb dX0_rowFor_23 rfl hl (by decide) rfl (fun ls hl => ?_)
      refine lv_aload_n hx hb dX0_rowFor_24 rfl (lv_at hl 1 rfl) ?_
      refine lv_iload_n hx hb dX0_rowFor_25 rfl (lv_at hl 2 rfl) ?_
      refine lv_iconst (v := (0 : Int32)) hx hb dX0_rowFor_26 (by decide) ?_
      refine lv_iconst (v := (0 : Int32)) hx hb dX0_rowFor_27 (by decide) ?_
      refine xx_WI ⟨hx, hb, hml, hown, hts⟩ hA (xxt_triesOf l _ _ _ _ hw) (vx_cwVW (hh := [(5, 59, 67, 0), (67, 69, 67, 0)]) 3 hts (lw_VW q962 q964 qs40 q103 q965) rfl rfl rfl cd_X0_triesOf ⟨Nat.le_of_ble_eq_true rfl, Nat.le_of_ble_eq_true rfl⟩) hW (xx_recv hW) hS rfl hl.1 rfl (Nat.le_of_ble_eq_true rfl) dX0_rowFor_28 (fun r6 σ5 H locs hw hW hS => ?_)
      refine lv_istore (lv' := [(4, .int r6), (3, .int (0 : Int32)), (0, .ref (ad 0)), (1, .int a1), (2, .int a2)]) hx hb dX0_rowFor_31 hl (by decide) rfl (fun ls hl => ?_)
      refine lv_iconst (v := (1 : Int32)) hx hb dX0_rowFor_33 (by decide) ?_
      refine lv_istore (lv' := [(5, .int (1 : Int32)), (4, .int r6), (3, .int (0 : Int32)), (0, .ref (ad 0)), (1, .int a1), (2, .int a2)]) hx hb dX0_rowFor_34 hl (by decide) rfl (fun ls hl => ?_)
      obtain ⟨n9, hw⟩ := hw
      exact xxk_rowFor_36  C0 hA  n9 a1 a2 (0 : Int32) r6 (1 : Int32) σ5 _ _ _ hw hW hS (lv_sub hl [3, 4, 5, 2, 1, 0] rfl)
    · have hw := hw.1 c12
      refine lv_sipush (v := (-1000 : Int32)) hx hb dX0_rowFor_18 (by decide) ?_
      exact gg_iret (xx_mv D E A ad sk) C0 hW hS hw dX0_rowFor_21
theorem cd_X0_longest : yX0_longest.cls = RX0 ∧ yX0_longest.cls ≠ "java/lang/invoke/MethodHandle" ∧ yX0_longest.cls ≠ "java/lang/invoke/VarHandle" ∧ (parseMethodDescriptor yX0_longest.desc).map (fun d => d.parameters.length) = some 0 := by decide +kernel
/-! GleanersForGaps.longest()I -/
def xxw_longest_50  (Q : Int32 → xx_S → Prop) (K6 : Int32 → Int32 → Int32 → xx_S → Prop) (K21 : Int32 → Int32 → Int32 → Int32 → Int32 → xx_S → Prop) (x2 : Int32) (x3 : Int32) (x4 : Int32) (x5 : Int32) (s0 : Int32) (σ : xx_S) : Prop :=
    vp_in x5 24 ∧ K21 s0 (if x2 < (xx_g σ 3 x5.toNatClampNeg) then (xx_g σ 3 x5.toNatClampNeg) else x2) x3 x4 (x5 + (1 : Int32)) σ
def xxw_longest_21  (Q : Int32 → xx_S → Prop) (K6 : Int32 → Int32 → Int32 → xx_S → Prop) : Nat → Int32 → Int32 → Int32 → Int32 → Int32 → xx_S → Prop
  | 0, _, _, _, _, _, _ => False
  | n + 1, x1, x2, x3, x4, x5, σ =>
    (((x4 ≤ x5) → K6 x1 x2 (x3 + (1 : Int32)) σ) ∧ (¬ (x4 ≤ x5) → vp_in x5 24 ∧ ((((xx_g σ 3 x5.toNatClampNeg) ≤ x2) → xxw_longest_50 Q K6 (fun y0 y1 y2 y3 y4 τ => xxw_longest_21 Q K6 n y0 y1 y2 y3 y4 τ) x2 x3 x4 x5 x1 σ) ∧ (¬ ((xx_g σ 3 x5.toNatClampNeg) ≤ x2) → xxw_longest_50 Q K6 (fun y0 y1 y2 y3 y4 τ => xxw_longest_21 Q K6 n y0 y1 y2 y3 y4 τ) x2 x3 x4 x5 (((100 : Int32) * x3) + x5) σ))))
def xxw_longest_6  (Q : Int32 → xx_S → Prop)  : Nat → Int32 → Int32 → Int32 → xx_S → Prop
  | 0, _, _, _, _ => False
  | n + 1, x1, x2, x3, σ =>
    ((((4 : Int32) ≤ x3) → Q x1 σ) ∧ (¬ ((4 : Int32) ≤ x3) → (xxw_tellsRuns x3 σ (fun r2 σ1 => ∃ k9, xxw_longest_21 Q (fun y0 y1 y2 τ => xxw_longest_6 Q n y0 y1 y2 τ) k9 x1 x2 x3 r2 (0 : Int32) σ1))))
def xxw_longest   (σ : xx_S) (Q : Int32 → xx_S → Prop) : Prop :=
    ∃ k9, xxw_longest_6 Q k9 (-1 : Int32) (0 : Int32) (0 : Int32) σ
abbrev xxr_longest : Room := { frames := 2, cells := 0, slots := 0, locals := 46 }
set_option maxHeartbeats 4000000 in
set_option maxRecDepth 100000 in
theorem xxk_longest_50 {p : Program} {l : Launch} {e : Env} {s : State} {m : MethodId} {args : Array Value} {below : List Frame} {meth : Method} {c : Code} {D : va_G} {E : Nat → ClassId} {A : Nat → Prop} {ad sk : Nat → Nat} {Q : Int32 → xx_S → Prop} {K6 : Int32 → Int32 → Int32 → xx_S → Prop} {K21 : Int32 → Int32 → Int32 → Int32 → Int32 → xx_S → Prop}  (C0 : gg_C p s m args meth c RX0 cX0_longest 6 (some .int)) (hA : xx_A sk A s) (hK6 : ∀ (x1 : Int32) (x2 : Int32) (x3 : Int32) (σ : xx_S) (H : Heap) (locs : List Loc) (ls : Array Slot), K6 x1 x2 x3 σ → xx_W D E A ad sk σ s H → va_S A s.heap H locs → lv_has ls 6 [(0, .ref (ad 0)), (1, .int x1), (2, .int x2), (3, .int x3)] → W p l e xxr_longest s m args below meth c H locs 0 0 (MQ below (va_Qi Q (fun u t => xx_W D E A ad sk u t t.heap) A) args s 0 0 A) (F0 m 6 ls [])) (hK21 : ∀ (x1 : Int32) (x2 : Int32) (x3 : Int32) (x4 : Int32) (x5 : Int32) (σ : xx_S) (H : Heap) (locs : List Loc) (ls : Array Slot), K21 x1 x2 x3 x4 x5 σ → xx_W D E A ad sk σ s H → va_S A s.heap H locs → lv_has ls 6 [(0, .ref (ad 0)), (1, .int x1), (2, .int x2), (3, .int x3), (4, .int x4), (5, .int x5)] → W p l e xxr_longest s m args below meth c H locs 0 0 (MQ below (va_Qi Q (fun u t => xx_W D E A ad sk u t t.heap) A) args s 0 0 A) (F0 m 21 ls [])) :
    ∀ (x2 : Int32) (x3 : Int32) (x4 : Int32) (x5 : Int32) (s0 : Int32) (σ : xx_S) (H : Heap) (locs : List Loc) (ls : Array Slot), xxw_longest_50 Q K6 K21 x2 x3 x4 x5 s0 σ → xx_W D E A ad sk σ s H → va_S A s.heap H locs → lv_has ls 6 [(0, .ref (ad 0)), (2, .int x2), (3, .int x3), (4, .int x4), (5, .int x5)] → W p l e xxr_longest s m args below meth c H locs 0 0 (MQ below (va_Qi Q (fun u t => xx_W D E A ad sk u t t.heap) A) args s 0 0 A) (F0 m 50 ls [.int s0]) := by
  obtain ⟨hx, hb, hml, hown, hts, hr, hlocks⟩ := id C0
  intro x2 x3 x4 x5 s0 σ H locs ls hw hW hS hl
  unfold xxw_longest_50 at hw
  refine lv_istore_n (lv' := [(1, .int s0), (0, .ref (ad 0)), (2, .int x2), (3, .int x3), (4, .int x4), (5, .int x5)]) hx hb dX0_longest_50 rfl hl (by decide) rfl (fun ls hl => ?_)
  refine lv_iload_n hx hb dX0_longest_51 rfl (lv_at hl 2 rfl) ?_
  refine lv_aload_n hx hb dX0_longest_52 rfl (lv_at hl 1 rfl) ?_
  refine xx_getr hx hb hts hown hW 5 3 (by decide) q750 dX0_longest_53 ?_
  refine lv_iload hx hb dX0_longest_56 (lv_at hl 5 rfl) ?_
  obtain ⟨hin, hw⟩ := hw
  refine xx_ald hx hb hW 3 24 (by decide) rfl hin dX0_longest_58 ?_
  refine va_mmax hx hb (hml.trans hl.1.symm) hown (hts _ q273) (hts _ q274) (hts _ q113) (hts _ q275) (Nat.le_of_ble_eq_true rfl) (Nat.le_of_ble_eq_true rfl) (Nat.zero_le _) (Nat.zero_le _) dX0_longest_59 ?_
  refine lv_istore_n (lv' := [(2, .int (if x2 < (xx_g σ 3 x5.toNatClampNeg) then (xx_g σ 3 x5.toNatClampNeg) else x2)), (1, .int s0), (0, .ref (ad 0)), (3, .int x3), (4, .int x4), (5, .int x5)]) hx hb dX0_longest_62 rfl hl (by decide) rfl (fun ls hl => ?_)
  refine lv_iinc (v := (x5 + (1 : Int32))) (lv' := [(5, .int (x5 + (1 : Int32))), (2, .int (if x2 < (xx_g σ 3 x5.toNatClampNeg) then (xx_g σ 3 x5.toNatClampNeg) else x2)), (1, .int s0), (0, .ref (ad 0)), (3, .int x3), (4, .int x4)]) hx hb dX0_longest_63 hl (k := 5) rfl rfl (by decide) rfl (fun ls hl => ?_)
  refine lv_goto (tgt := 21) hx hb dX0_longest_66 (by decide) ?_
  exact hK21 s0 (if x2 < (xx_g σ 3 x5.toNatClampNeg) then (xx_g σ 3 x5.toNatClampNeg) else x2) x3 x4 (x5 + (1 : Int32)) σ _ _ _ hw hW hS (lv_sub hl [3, 2, 1, 4, 5, 0] rfl)
set_option maxHeartbeats 4000000 in
set_option maxRecDepth 100000 in
theorem xxk_longest_21 {p : Program} {l : Launch} {e : Env} {s : State} {m : MethodId} {args : Array Value} {below : List Frame} {meth : Method} {c : Code} {D : va_G} {E : Nat → ClassId} {A : Nat → Prop} {ad sk : Nat → Nat} {Q : Int32 → xx_S → Prop} {K6 : Int32 → Int32 → Int32 → xx_S → Prop}  (C0 : gg_C p s m args meth c RX0 cX0_longest 6 (some .int)) (hA : xx_A sk A s) (hK6 : ∀ (x1 : Int32) (x2 : Int32) (x3 : Int32) (σ : xx_S) (H : Heap) (locs : List Loc) (ls : Array Slot), K6 x1 x2 x3 σ → xx_W D E A ad sk σ s H → va_S A s.heap H locs → lv_has ls 6 [(0, .ref (ad 0)), (1, .int x1), (2, .int x2), (3, .int x3)] → W p l e xxr_longest s m args below meth c H locs 0 0 (MQ below (va_Qi Q (fun u t => xx_W D E A ad sk u t t.heap) A) args s 0 0 A) (F0 m 6 ls [])) :
    ∀ n : Nat, ∀ (x1 : Int32) (x2 : Int32) (x3 : Int32) (x4 : Int32) (x5 : Int32) (σ : xx_S) (H : Heap) (locs : List Loc) (ls : Array Slot), xxw_longest_21 Q K6 n x1 x2 x3 x4 x5 σ → xx_W D E A ad sk σ s H → va_S A s.heap H locs → lv_has ls 6 [(0, .ref (ad 0)), (1, .int x1), (2, .int x2), (3, .int x3), (4, .int x4), (5, .int x5)] → W p l e xxr_longest s m args below meth c H locs 0 0 (MQ below (va_Qi Q (fun u t => xx_W D E A ad sk u t t.heap) A) args s 0 0 A) (F0 m 21 ls []) := by
  obtain ⟨hx, hb, hml, hown, hts, hr, hlocks⟩ := id C0
  intro n
  induction n with
  | zero =>
    intro x1 x2 x3 x4 x5 σ H locs ls hw hW hS hl
    exact absurd hw (by unfold xxw_longest_21; exact id)
  | succ n ih =>
    intro x1 x2 x3 x4 x5 σ H locs ls hw hW hS hl
    unfold xxw_longest_21 at hw
    refine lv_iload hx hb dX0_longest_21 (lv_at hl 5 rfl) ?_
    refine lv_iload hx hb dX0_longest_23 (lv_at hl 4 rfl) ?_
    refine lv_icmp_ge (tgt := 69) hx hb dX0_longest_25 (by decide) (fun c4 => ?_) (fun c4 => ?_)
    · have hw := hw.1 c4
      refine lv_iinc (v := (x3 + (1 : Int32))) (lv' := [(3, .int (x3 + (1 : Int32))), (0, .ref (ad 0)), (1, .int x1), (2, .int x2), (4, .int x4), (5, .int x5)]) hx hb dX0_longest_69 hl (k := 3) rfl rfl (by decide) rfl (fun ls hl => ?_)
      refine lv_goto (tgt := 6) hx hb dX0_longest_72 (by decide) ?_
      exact hK6 x1 x2 (x3 + (1 : Int32)) σ _ _ _ hw hW hS (lv_sub hl [1, 2, 3, 0] rfl)
    · have hw := hw.2 c4
      refine lv_aload_n hx hb dX0_longest_28 rfl (lv_at hl 0 rfl) ?_
      refine xx_getr hx hb hts hown hW 5 3 (by decide) q750 dX0_longest_29 ?_
      refine lv_iload hx hb dX0_longest_32 (lv_at hl 5 rfl) ?_
      obtain ⟨hin, hw⟩ := hw
      refine xx_ald hx hb hW 3 24 (by decide) rfl hin dX0_longest_34 ?_
      refine lv_iload_n hx hb dX0_longest_35 rfl (lv_at hl 2 rfl) ?_
      refine lv_icmp_le (tgt := 49) hx hb dX0_longest_36 (by decide) (fun c3 => ?_) (fun c3 => ?_)
      · have hw := hw.1 c3
        refine lv_iload_n hx hb dX0_longest_49 rfl (lv_at hl 1 rfl) ?_
        exact xxk_longest_50  C0 hA hK6 (fun y0 y1 y2 y3 y4 τ H9 l9 s9 => ih y0 y1 y2 y3 y4 τ H9 l9 s9) x2 x3 x4 x5 x1 σ _ _ _ hw hW hS (lv_sub hl [0, 2, 3, 4, 5] rfl)
      · have hw := hw.2 c3
        refine lv_bipush (v := (100 : Int32)) hx hb dX0_longest_39 (by decide) ?_
        refine lv_iload_n hx hb dX0_longest_41 rfl (lv_at hl 3 rfl) ?_
        refine lv_imul hx hb dX0_longest_42 ?_
        refine lv_iload hx hb dX0_longest_43 (lv_at hl 5 rfl) ?_
        refine lv_iadd hx hb dX0_longest_45 ?_
        refine lv_goto (tgt := 50) hx hb dX0_longest_46 (by decide) ?_
        exact xxk_longest_50  C0 hA hK6 (fun y0 y1 y2 y3 y4 τ H9 l9 s9 => ih y0 y1 y2 y3 y4 τ H9 l9 s9) x2 x3 x4 x5 (((100 : Int32) * x3) + x5) σ _ _ _ hw hW hS (lv_sub hl [0, 2, 3, 4, 5] rfl)
set_option maxHeartbeats 4000000 in
set_option maxRecDepth 100000 in
theorem xxk_longest_6 {p : Program} {l : Launch} {e : Env} {s : State} {m : MethodId} {args : Array Value} {below : List Frame} {meth : Method} {c : Code} {D : va_G} {E : Nat → ClassId} {A : Nat → Prop} {ad sk : Nat → Nat} {Q : Int32 → xx_S → Prop}   (C0 : gg_C p s m args meth c RX0 cX0_longest 6 (some .int)) (hA : xx_A sk A s) :
    ∀ n : Nat, ∀ (x1 : Int32) (x2 : Int32) (x3 : Int32) (σ : xx_S) (H : Heap) (locs : List Loc) (ls : Array Slot), xxw_longest_6 Q n x1 x2 x3 σ → xx_W D E A ad sk σ s H → va_S A s.heap H locs → lv_has ls 6 [(0, .ref (ad 0)), (1, .int x1), (2, .int x2), (3, .int x3)] → W p l e xxr_longest s m args below meth c H locs 0 0 (MQ below (va_Qi Q (fun u t => xx_W D E A ad sk u t t.heap) A) args s 0 0 A) (F0 m 6 ls []) := by
  obtain ⟨hx, hb, hml, hown, hts, hr, hlocks⟩ := id C0
  intro n
  induction n with
  | zero =>
    intro x1 x2 x3 σ H locs ls hw hW hS hl
    exact absurd hw (by unfold xxw_longest_6; exact id)
  | succ n ih =>
    intro x1 x2 x3 σ H locs ls hw hW hS hl
    unfold xxw_longest_6 at hw
    refine lv_iload_n hx hb dX0_longest_6 rfl (lv_at hl 3 rfl) ?_
    refine lv_iconst (v := (4 : Int32)) hx hb dX0_longest_7 (by decide) ?_
    refine lv_icmp_ge (tgt := 75) hx hb dX0_longest_8 (by decide) (fun c5 => ?_) (fun c5 => ?_)
    · have hw := hw.1 c5
      refine lv_iload_n hx hb dX0_longest_75 rfl (lv_at hl 1 rfl) ?_
      exact gg_iret (xx_mv D E A ad sk) C0 hW hS hw dX0_longest_76
    · have hw := hw.2 c5
      refine lv_aload_n hx hb dX0_longest_11 rfl (lv_at hl 0 rfl) ?_
      refine lv_iload_n hx hb dX0_longest_12 rfl (lv_at hl 3 rfl) ?_
      refine xx_VI ⟨hx, hb, hml, hown, hts⟩ hA (xxt_tellsRuns l _ _ hw) (cwV 1 hts (lw_V q262 q264 qs5 q103 q265) rfl rfl rfl cd_X0_tellsRuns ⟨Nat.le_of_ble_eq_true rfl, Nat.le_of_ble_eq_true rfl⟩) hW (xx_recv hW) hS rfl hl.1 rfl (Nat.le_of_ble_eq_true rfl) dX0_longest_13 (fun r2 σ1 H locs hw hW hS => ?_)
      refine lv_istore (lv' := [(4, .int r2), (0, .ref (ad 0)), (1, .int x1), (2, .int x2), (3, .int x3)]) hx hb dX0_longest_16 hl (by decide) rfl (fun ls hl => ?_)
      refine lv_iconst (v := (0 : Int32)) hx hb dX0_longest_18 (by decide) ?_
      refine lv_istore (lv' := [(5, .int (0 : Int32)), (4, .int r2), (0, .ref (ad 0)), (1, .int x1), (2, .int x2), (3, .int x3)]) hx hb dX0_longest_19 hl (by decide) rfl (fun ls hl => ?_)
      obtain ⟨n9, hw⟩ := hw
      exact xxk_longest_21  C0 hA (fun y0 y1 y2 τ H9 l9 s9 => ih y0 y1 y2 τ H9 l9 s9) n9 x1 x2 x3 r2 (0 : Int32) σ1 _ _ _ hw hW hS (lv_sub hl [2, 3, 4, 5, 1, 0] rfl)
set_option maxHeartbeats 4000000 in
set_option maxRecDepth 100000 in
theorem xxt_longest (l : Launch) {D : va_G} {E : Nat → ClassId} {A : Nat → Prop} {ad sk : Nat → Nat}   (σ : xx_S) {Q : Int32 → xx_S → Prop} (hw : xxw_longest σ Q) :
    Met l yX0_longest (ws_ yX0_longest cX0_longest 6 (some .int)) xxr_longest (va_Pc [.ref (ad 0)] (fun U => xx_V D E A ad sk σ U U.heap)) (va_Qi Q (fun u t => xx_W D E A ad sk u t t.heap) A) 0 0 A := by
  refine gg_entry (W0 := fun s H => xx_V D E A ad sk σ s H) (by decide) (Nat.le_of_ble_eq_true rfl) ?_
  intro p e s m args below meth c C0 hV ls hl
  have C0 : gg_C p s m args meth c RX0 cX0_longest 6 (some .int) := C0
  obtain ⟨hx, hb, hml, hown, hts, hr, hlocks⟩ := id C0
  have hl : lv_has ls 6 [(0, .ref (ad 0))] := hl
  have hS : va_S A s.heap s.heap [] := va_S.rf
  have hA : xx_A sk A s := hV.2
  have hW : xx_W D E A ad sk σ s s.heap := hV.1
  unfold xxw_longest at hw
  refine lv_iconst (v := (-1 : Int32)) hx hb dX0_longest_0 (by decide) ?_
  refine lv_istore_n (lv' := [(1, .int (-1 : Int32)), (0, .ref (ad 0))]) hx hb dX0_longest_1 rfl hl (by decide) rfl (fun ls hl => ?_)
  refine lv_iconst (v := (0 : Int32)) hx hb dX0_longest_2 (by decide) ?_
  refine lv_istore_n (lv' := [(2, .int (0 : Int32)), (1, .int (-1 : Int32)), (0, .ref (ad 0))]) hx hb dX0_longest_3 rfl hl (by decide) rfl (fun ls hl => ?_)
  refine lv_iconst (v := (0 : Int32)) hx hb dX0_longest_4 (by decide) ?_
  refine lv_istore_n (lv' := [(3, .int (0 : Int32)), (2, .int (0 : Int32)), (1, .int (-1 : Int32)), (0, .ref (ad 0))]) hx hb dX0_longest_5 rfl hl (by decide) rfl (fun ls hl => ?_)
  obtain ⟨n9, hw⟩ := hw
  exact xxk_longest_6  C0 hA  n9 (-1 : Int32) (0 : Int32) (0 : Int32) σ _ _ _ hw hW hS (lv_sub hl [3, 2, 1, 0] rfl)
