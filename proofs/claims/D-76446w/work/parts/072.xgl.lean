theorem cd_X9_kind : yX9_kind.cls = RX9 ∧ yX9_kind.cls ≠ "java/lang/invoke/MethodHandle" ∧ yX9_kind.cls ≠ "java/lang/invoke/VarHandle" ∧ (parseMethodDescriptor yX9_kind.desc).map (fun d => d.parameters.length) = some 0 := by decide +kernel
/-! GleanersForGaps$Gleaner.kind()I -/
def xxw_G9_kind (y : Nat)  (σ : xx_S) (Q : Int32 → xx_S → Prop) : Prop :=
    Q (0 : Int32) σ
abbrev xxr_G9_kind : Room := { frames := 0, cells := 0, slots := 0, locals := 0 }
set_option maxHeartbeats 4000000 in
set_option maxRecDepth 100000 in
theorem xxt_G9_kind (l : Launch) {D : va_G} {E : Nat → ClassId} {A : Nat → Prop} {ad sk : Nat → Nat} {y : Nat}   (σ : xx_S) {Q : Int32 → xx_S → Prop} (hw : xxw_G9_kind y σ Q) :
    Met l yX9_kind (ws_ yX9_kind cX9_kind 1 (some .int)) xxr_G9_kind (va_Pc [.ref y] (fun U => xx_V D E A ad sk σ U U.heap)) (va_Qi Q (fun u t => xx_W D E A ad sk u t t.heap) A) 0 0 A := by
  refine gg_entry (W0 := fun s H => xx_V D E A ad sk σ s H) (by decide) (Nat.le_of_ble_eq_true rfl) ?_
  intro p e s m args below meth c C0 hV ls hl
  have C0 : gg_C p s m args meth c RX9 cX9_kind 1 (some .int) := C0
  obtain ⟨hx, hb, hml, hown, hts, hr, hlocks⟩ := id C0
  have hl : lv_has ls 1 [(0, .ref y)] := hl
  have hS : va_S A s.heap s.heap [] := va_S.rf
  have hA : xx_A sk A s := hV.2
  have hW : xx_W D E A ad sk σ s s.heap := hV.1
  unfold xxw_G9_kind at hw
  refine lv_iconst (v := (0 : Int32)) hx hb dX9_kind_0 (by decide) ?_
  exact gg_iret (xx_mv D E A ad sk) C0 hW hS hw dX9_kind_1
theorem cd_X9_keeps : yX9_keeps.cls = RX9 ∧ yX9_keeps.cls ≠ "java/lang/invoke/MethodHandle" ∧ yX9_keeps.cls ≠ "java/lang/invoke/VarHandle" ∧ (parseMethodDescriptor yX9_keeps.desc).map (fun d => d.parameters.length) = some 1 := by decide +kernel
/-! GleanersForGaps$Gleaner.keeps(I)I -/
def xxw_G9_keeps (y : Nat) (a1 : Int32) (σ : xx_S) (Q : Int32 → xx_S → Prop) : Prop :=
    ∃ (k1 : Nat) (nk1 ak1 : Int32), xx_gl σ y k1 nk1 ak1 ∧ Q ((ak1 * a1) / (100 : Int32)) σ
abbrev xxr_G9_keeps : Room := { frames := 0, cells := 0, slots := 0, locals := 0 }
set_option maxHeartbeats 4000000 in
set_option maxRecDepth 100000 in
theorem xxt_G9_keeps (l : Launch) {D : va_G} {E : Nat → ClassId} {A : Nat → Prop} {ad sk : Nat → Nat} {y : Nat}  (a1 : Int32) (σ : xx_S) {Q : Int32 → xx_S → Prop} (hw : xxw_G9_keeps y a1 σ Q) :
    Met l yX9_keeps (ws_ yX9_keeps cX9_keeps 2 (some .int)) xxr_G9_keeps (va_Pc [.ref y, .int a1] (fun U => xx_V D E A ad sk σ U U.heap)) (va_Qi Q (fun u t => xx_W D E A ad sk u t t.heap) A) 0 0 A := by
  refine gg_entry (W0 := fun s H => xx_V D E A ad sk σ s H) (by decide) (Nat.le_of_ble_eq_true rfl) ?_
  intro p e s m args below meth c C0 hV ls hl
  have C0 : gg_C p s m args meth c RX9 cX9_keeps 2 (some .int) := C0
  obtain ⟨hx, hb, hml, hown, hts, hr, hlocks⟩ := id C0
  have hl : lv_has ls 2 [(0, .ref y), (1, .int a1)] := hl
  have hS : va_S A s.heap s.heap [] := va_S.rf
  have hA : xx_A sk A s := hV.2
  have hW : xx_W D E A ad sk σ s s.heap := hV.1
  unfold xxw_G9_keeps at hw
  refine lv_aload_n hx hb dX9_keeps_0 rfl (lv_at hl 0 rfl) ?_
  obtain ⟨k1, nk1, ak1, hgl, hw⟩ := hw
  refine xx_gla hx hb hts hown hW hgl q165 (fun _ h9 => h9) dX9_keeps_1 ?_
  refine lv_iload_n hx hb dX9_keeps_4 rfl (lv_at hl 1 rfl) ?_
  refine lv_imul hx hb dX9_keeps_5 ?_
  refine lv_bipush (v := (100 : Int32)) hx hb dX9_keeps_6 (by decide) ?_
  refine lv_idiv hx hb dX9_keeps_8 (by decide) ?_
  exact gg_iret (xx_mv D E A ad sk) C0 hW hS hw dX9_keeps_9
theorem cd_X9_takes : yX9_takes.cls = RX9 ∧ yX9_takes.cls ≠ "java/lang/invoke/MethodHandle" ∧ yX9_takes.cls ≠ "java/lang/invoke/VarHandle" ∧ (parseMethodDescriptor yX9_takes.desc).map (fun d => d.parameters.length) = some 2 := by decide +kernel
/-! GleanersForGaps$Gleaner.takes(II)I -/
def xxw_G9_takes (y : Nat) (a1 : Int32) (a2 : Int32) (σ : xx_S) (Q : Int32 → xx_S → Prop) : Prop :=
    Q a1 σ
abbrev xxr_G9_takes : Room := { frames := 0, cells := 0, slots := 0, locals := 0 }
set_option maxHeartbeats 4000000 in
set_option maxRecDepth 100000 in
theorem xxt_G9_takes (l : Launch) {D : va_G} {E : Nat → ClassId} {A : Nat → Prop} {ad sk : Nat → Nat} {y : Nat}  (a1 : Int32) (a2 : Int32) (σ : xx_S) {Q : Int32 → xx_S → Prop} (hw : xxw_G9_takes y a1 a2 σ Q) :
    Met l yX9_takes (ws_ yX9_takes cX9_takes 3 (some .int)) xxr_G9_takes (va_Pc [.ref y, .int a1, .int a2] (fun U => xx_V D E A ad sk σ U U.heap)) (va_Qi Q (fun u t => xx_W D E A ad sk u t t.heap) A) 0 0 A := by
  refine gg_entry (W0 := fun s H => xx_V D E A ad sk σ s H) (by decide) (Nat.le_of_ble_eq_true rfl) ?_
  intro p e s m args below meth c C0 hV ls hl
  have C0 : gg_C p s m args meth c RX9 cX9_takes 3 (some .int) := C0
  obtain ⟨hx, hb, hml, hown, hts, hr, hlocks⟩ := id C0
  have hl : lv_has ls 3 [(0, .ref y), (1, .int a1), (2, .int a2)] := hl
  have hS : va_S A s.heap s.heap [] := va_S.rf
  have hA : xx_A sk A s := hV.2
  have hW : xx_W D E A ad sk σ s s.heap := hV.1
  unfold xxw_G9_takes at hw
  refine lv_iload_n hx hb dX9_takes_0 rfl (lv_at hl 1 rfl) ?_
  exact gg_iret (xx_mv D E A ad sk) C0 hW hS hw dX9_takes_1
theorem cd_X10_kind : yX10_kind.cls = RX10 ∧ yX10_kind.cls ≠ "java/lang/invoke/MethodHandle" ∧ yX10_kind.cls ≠ "java/lang/invoke/VarHandle" ∧ (parseMethodDescriptor yX10_kind.desc).map (fun d => d.parameters.length) = some 0 := by decide +kernel
/-! GleanersForGaps$Widow.kind()I -/
def xxw_G10_kind (y : Nat)  (σ : xx_S) (Q : Int32 → xx_S → Prop) : Prop :=
    (∃ (k1 : Nat) (nk1 ak1 : Int32), xx_gl σ y k1 nk1 ak1 ∧ xxw_G9_kind y σ (fun r3 σ2 => Q (r3 + (1 : Int32)) σ2))
abbrev xxr_G10_kind : Room := { frames := 1, cells := 0, slots := 0, locals := 20 }
set_option maxHeartbeats 4000000 in
set_option maxRecDepth 100000 in
theorem xxt_G10_kind (l : Launch) {D : va_G} {E : Nat → ClassId} {A : Nat → Prop} {ad sk : Nat → Nat} {y : Nat}   (σ : xx_S) {Q : Int32 → xx_S → Prop} (hw : xxw_G10_kind y σ Q) :
    Met l yX10_kind (ws_ yX10_kind cX10_kind 1 (some .int)) xxr_G10_kind (va_Pc [.ref y] (fun U => xx_V D E A ad sk σ U U.heap)) (va_Qi Q (fun u t => xx_W D E A ad sk u t t.heap) A) 0 0 A := by
  refine gg_entry (W0 := fun s H => xx_V D E A ad sk σ s H) (by decide) (Nat.le_of_ble_eq_true rfl) ?_
  intro p e s m args below meth c C0 hV ls hl
  have C0 : gg_C p s m args meth c RX10 cX10_kind 1 (some .int) := C0
  obtain ⟨hx, hb, hml, hown, hts, hr, hlocks⟩ := id C0
  have hl : lv_has ls 1 [(0, .ref y)] := hl
  have hS : va_S A s.heap s.heap [] := va_S.rf
  have hA : xx_A sk A s := hV.2
  have hW : xx_W D E A ad sk σ s s.heap := hV.1
  unfold xxw_G10_kind at hw
  refine lv_aload_n hx hb dX10_kind_0 rfl (lv_at hl 0 rfl) ?_
  obtain ⟨k1, nk1, ak1, hgl, hw⟩ := hw
  obtain ⟨hrc, cC, hat⟩ := xx_glrecv hW hgl
  refine gg_SUI (cells := 0) (slots := 0) (xx_mv0 D E A ad sk σ) (xx_mv D E A ad sk) hat ⟨hx, hb, hml, hown, hts⟩ (xxt_G9_kind l _ hw) (va_cwSU 0 hts (lw_SU q331 q319 q173 q317 q122 q324) rfl rfl rfl ⟨by decide +kernel, cd_X9_kind.2.2.2⟩ ⟨Nat.le_of_ble_eq_true rfl, Nat.le_of_ble_eq_true rfl⟩) (xx_toV hW hA hS) hrc hS rfl hl.1 rfl (Nat.le_of_ble_eq_true rfl) dX10_kind_1 ⟨Nat.zero_le _, Nat.zero_le _⟩ (fun r3 σ2 H locs hw hW hS => ?_)
  refine lv_iconst (v := (1 : Int32)) hx hb dX10_kind_4 (by decide) ?_
  refine lv_iadd hx hb dX10_kind_5 ?_
  exact gg_iret (xx_mv D E A ad sk) C0 hW hS hw dX10_kind_6
theorem cd_X10_takes : yX10_takes.cls = RX10 ∧ yX10_takes.cls ≠ "java/lang/invoke/MethodHandle" ∧ yX10_takes.cls ≠ "java/lang/invoke/VarHandle" ∧ (parseMethodDescriptor yX10_takes.desc).map (fun d => d.parameters.length) = some 2 := by decide +kernel
/-! GleanersForGaps$Widow.takes(II)I -/
def xxw_G10_takes (y : Nat) (a1 : Int32) (a2 : Int32) (σ : xx_S) (Q : Int32 → xx_S → Prop) : Prop :=
    ((((a2 - a2 / (2 : Int32) * (2 : Int32)) = (1 : Int32)) → (∃ (k4 : Nat) (nk4 ak4 : Int32), xx_gl σ y k4 nk4 ak4 ∧ xxw_G9_takes y a1 a2 σ (fun r6 σ5 => Q (r6 + (1 : Int32)) σ5))) ∧ (¬ ((a2 - a2 / (2 : Int32) * (2 : Int32)) = (1 : Int32)) → (∃ (k1 : Nat) (nk1 ak1 : Int32), xx_gl σ y k1 nk1 ak1 ∧ xxw_G9_takes y a1 a2 σ (fun r3 σ2 => Q r3 σ2))))
abbrev xxr_G10_takes : Room := { frames := 1, cells := 0, slots := 0, locals := 22 }
set_option maxHeartbeats 4000000 in
set_option maxRecDepth 100000 in
theorem xxt_G10_takes (l : Launch) {D : va_G} {E : Nat → ClassId} {A : Nat → Prop} {ad sk : Nat → Nat} {y : Nat}  (a1 : Int32) (a2 : Int32) (σ : xx_S) {Q : Int32 → xx_S → Prop} (hw : xxw_G10_takes y a1 a2 σ Q) :
    Met l yX10_takes (ws_ yX10_takes cX10_takes 3 (some .int)) xxr_G10_takes (va_Pc [.ref y, .int a1, .int a2] (fun U => xx_V D E A ad sk σ U U.heap)) (va_Qi Q (fun u t => xx_W D E A ad sk u t t.heap) A) 0 0 A := by
  refine gg_entry (W0 := fun s H => xx_V D E A ad sk σ s H) (by decide) (Nat.le_of_ble_eq_true rfl) ?_
  intro p e s m args below meth c C0 hV ls hl
  have C0 : gg_C p s m args meth c RX10 cX10_takes 3 (some .int) := C0
  obtain ⟨hx, hb, hml, hown, hts, hr, hlocks⟩ := id C0
  have hl : lv_has ls 3 [(0, .ref y), (1, .int a1), (2, .int a2)] := hl
  have hS : va_S A s.heap s.heap [] := va_S.rf
  have hA : xx_A sk A s := hV.2
  have hW : xx_W D E A ad sk σ s s.heap := hV.1
  unfold xxw_G10_takes at hw
  refine lv_iload_n hx hb dX10_takes_0 rfl (lv_at hl 2 rfl) ?_
  refine lv_iconst (v := (2 : Int32)) hx hb dX10_takes_1 (by decide) ?_
  refine lv_irem hx hb dX10_takes_2 (by decide) ?_
  refine lv_iconst (v := (1 : Int32)) hx hb dX10_takes_3 (by decide) ?_
  refine lv_icmp_ne (tgt := 18) hx hb dX10_takes_4 (by decide) (fun c7 => ?_) (fun c7 => ?_)
  · have hw := hw.2 c7
    refine lv_aload_n hx hb dX10_takes_18 rfl (lv_at hl 0 rfl) ?_
    refine lv_iload_n hx hb dX10_takes_19 rfl (lv_at hl 1 rfl) ?_
    refine lv_iload_n hx hb dX10_takes_20 rfl (lv_at hl 2 rfl) ?_
    obtain ⟨k1, nk1, ak1, hgl, hw⟩ := hw
    obtain ⟨hrc, cC, hat⟩ := xx_glrecv hW hgl
    refine gg_SUI (cells := 0) (slots := 0) (xx_mv0 D E A ad sk σ) (xx_mv D E A ad sk) hat ⟨hx, hb, hml, hown, hts⟩ (xxt_G9_takes l _ _ _ hw) (va_cwSU 2 hts (lw_SU q912 q900 q173 q898 q122 q905) rfl rfl rfl ⟨by decide +kernel, cd_X9_takes.2.2.2⟩ ⟨Nat.le_of_ble_eq_true rfl, Nat.le_of_ble_eq_true rfl⟩) (xx_toV hW hA hS) hrc hS rfl hl.1 rfl (Nat.le_of_ble_eq_true rfl) dX10_takes_21 ⟨Nat.zero_le _, Nat.zero_le _⟩ (fun r3 σ2 H locs hw hW hS => ?_)
    exact gg_iret (xx_mv D E A ad sk) C0 hW hS hw dX10_takes_24
  · have hw := hw.1 c7
    refine lv_aload_n hx hb dX10_takes_7 rfl (lv_at hl 0 rfl) ?_
    refine lv_iload_n hx hb dX10_takes_8 rfl (lv_at hl 1 rfl) ?_
    refine lv_iload_n hx hb dX10_takes_9 rfl (lv_at hl 2 rfl) ?_
    obtain ⟨k4, nk4, ak4, hgl, hw⟩ := hw
    obtain ⟨hrc, cC, hat⟩ := xx_glrecv hW hgl
    refine gg_SUI (cells := 0) (slots := 0) (xx_mv0 D E A ad sk σ) (xx_mv D E A ad sk) hat ⟨hx, hb, hml, hown, hts⟩ (xxt_G9_takes l _ _ _ hw) (va_cwSU 2 hts (lw_SU q912 q900 q173 q898 q122 q905) rfl rfl rfl ⟨by decide +kernel, cd_X9_takes.2.2.2⟩ ⟨Nat.le_of_ble_eq_true rfl, Nat.le_of_ble_eq_true rfl⟩) (xx_toV hW hA hS) hrc hS rfl hl.1 rfl (Nat.le_of_ble_eq_true rfl) dX10_takes_10 ⟨Nat.zero_le _, Nat.zero_le _⟩ (fun r6 σ5 H locs hw hW hS => ?_)
    refine lv_iconst (v := (1 : Int32)) hx hb dX10_takes_13 (by decide) ?_
    refine lv_iadd hx hb dX10_takes_14 ?_
    refine lv_goto (tgt := 24) hx hb dX10_takes_15 (by decide) ?_
    exact gg_iret (xx_mv D E A ad sk) C0 hW hS hw dX10_takes_24
theorem cd_X11_kind : yX11_kind.cls = RX11 ∧ yX11_kind.cls ≠ "java/lang/invoke/MethodHandle" ∧ yX11_kind.cls ≠ "java/lang/invoke/VarHandle" ∧ (parseMethodDescriptor yX11_kind.desc).map (fun d => d.parameters.length) = some 0 := by decide +kernel
/-! GleanersForGaps$Rich.kind()I -/
def xxw_G11_kind (y : Nat)  (σ : xx_S) (Q : Int32 → xx_S → Prop) : Prop :=
    (∃ (k1 : Nat) (nk1 ak1 : Int32), xx_gl σ y k1 nk1 ak1 ∧ xxw_G9_kind y σ (fun r3 σ2 => Q (r3 + (2 : Int32)) σ2))
abbrev xxr_G11_kind : Room := { frames := 1, cells := 0, slots := 0, locals := 20 }
set_option maxHeartbeats 4000000 in
set_option maxRecDepth 100000 in
theorem xxt_G11_kind (l : Launch) {D : va_G} {E : Nat → ClassId} {A : Nat → Prop} {ad sk : Nat → Nat} {y : Nat}   (σ : xx_S) {Q : Int32 → xx_S → Prop} (hw : xxw_G11_kind y σ Q) :
    Met l yX11_kind (ws_ yX11_kind cX11_kind 1 (some .int)) xxr_G11_kind (va_Pc [.ref y] (fun U => xx_V D E A ad sk σ U U.heap)) (va_Qi Q (fun u t => xx_W D E A ad sk u t t.heap) A) 0 0 A := by
  refine gg_entry (W0 := fun s H => xx_V D E A ad sk σ s H) (by decide) (Nat.le_of_ble_eq_true rfl) ?_
  intro p e s m args below meth c C0 hV ls hl
  have C0 : gg_C p s m args meth c RX11 cX11_kind 1 (some .int) := C0
  obtain ⟨hx, hb, hml, hown, hts, hr, hlocks⟩ := id C0
  have hl : lv_has ls 1 [(0, .ref y)] := hl
  have hS : va_S A s.heap s.heap [] := va_S.rf
  have hA : xx_A sk A s := hV.2
  have hW : xx_W D E A ad sk σ s s.heap := hV.1
  unfold xxw_G11_kind at hw
  refine lv_aload_n hx hb dX11_kind_0 rfl (lv_at hl 0 rfl) ?_
  obtain ⟨k1, nk1, ak1, hgl, hw⟩ := hw
  obtain ⟨hrc, cC, hat⟩ := xx_glrecv hW hgl
  refine gg_SUI (cells := 0) (slots := 0) (xx_mv0 D E A ad sk σ) (xx_mv D E A ad sk) hat ⟨hx, hb, hml, hown, hts⟩ (xxt_G9_kind l _ hw) (va_cwSU 0 hts (lw_SU q338 q319 q182 q317 q122 q324) rfl rfl rfl ⟨by decide +kernel, cd_X9_kind.2.2.2⟩ ⟨Nat.le_of_ble_eq_true rfl, Nat.le_of_ble_eq_true rfl⟩) (xx_toV hW hA hS) hrc hS rfl hl.1 rfl (Nat.le_of_ble_eq_true rfl) dX11_kind_1 ⟨Nat.zero_le _, Nat.zero_le _⟩ (fun r3 σ2 H locs hw hW hS => ?_)
  refine lv_iconst (v := (2 : Int32)) hx hb dX11_kind_4 (by decide) ?_
  refine lv_iadd hx hb dX11_kind_5 ?_
  exact gg_iret (xx_mv D E A ad sk) C0 hW hS hw dX11_kind_6
theorem cd_X11_keeps : yX11_keeps.cls = RX11 ∧ yX11_keeps.cls ≠ "java/lang/invoke/MethodHandle" ∧ yX11_keeps.cls ≠ "java/lang/invoke/VarHandle" ∧ (parseMethodDescriptor yX11_keeps.desc).map (fun d => d.parameters.length) = some 1 := by decide +kernel
/-! GleanersForGaps$Rich.keeps(I)I -/
def xxw_G11_keeps (y : Nat) (a1 : Int32) (σ : xx_S) (Q : Int32 → xx_S → Prop) : Prop :=
    ∃ (k1 : Nat) (nk1 ak1 : Int32), xx_gl σ y k1 nk1 ak1 ∧ Q ak1 σ
abbrev xxr_G11_keeps : Room := { frames := 0, cells := 0, slots := 0, locals := 0 }
set_option maxHeartbeats 4000000 in
set_option maxRecDepth 100000 in
theorem xxt_G11_keeps (l : Launch) {D : va_G} {E : Nat → ClassId} {A : Nat → Prop} {ad sk : Nat → Nat} {y : Nat}  (a1 : Int32) (σ : xx_S) {Q : Int32 → xx_S → Prop} (hw : xxw_G11_keeps y a1 σ Q) :
    Met l yX11_keeps (ws_ yX11_keeps cX11_keeps 2 (some .int)) xxr_G11_keeps (va_Pc [.ref y, .int a1] (fun U => xx_V D E A ad sk σ U U.heap)) (va_Qi Q (fun u t => xx_W D E A ad sk u t t.heap) A) 0 0 A := by
  refine gg_entry (W0 := fun s H => xx_V D E A ad sk σ s H) (by decide) (Nat.le_of_ble_eq_true rfl) ?_
  intro p e s m args below meth c C0 hV ls hl
  have C0 : gg_C p s m args meth c RX11 cX11_keeps 2 (some .int) := C0
  obtain ⟨hx, hb, hml, hown, hts, hr, hlocks⟩ := id C0
  have hl : lv_has ls 2 [(0, .ref y), (1, .int a1)] := hl
  have hS : va_S A s.heap s.heap [] := va_S.rf
  have hA : xx_A sk A s := hV.2
  have hW : xx_W D E A ad sk σ s s.heap := hV.1
  unfold xxw_G11_keeps at hw
  refine lv_aload_n hx hb dX11_keeps_0 rfl (lv_at hl 0 rfl) ?_
  obtain ⟨k1, nk1, ak1, hgl, hw⟩ := hw
  refine xx_gla hx hb hts hown hW hgl q166 (u_same (hts _ q167)) dX11_keeps_1 ?_
  exact gg_iret (xx_mv D E A ad sk) C0 hW hS hw dX11_keeps_4
theorem cd_X11_takes : yX11_takes.cls = RX11 ∧ yX11_takes.cls ≠ "java/lang/invoke/MethodHandle" ∧ yX11_takes.cls ≠ "java/lang/invoke/VarHandle" ∧ (parseMethodDescriptor yX11_takes.desc).map (fun d => d.parameters.length) = some 2 := by decide +kernel
/-! GleanersForGaps$Rich.takes(II)I -/
def xxw_G11_takes (y : Nat) (a1 : Int32) (a2 : Int32) (σ : xx_S) (Q : Int32 → xx_S → Prop) : Prop :=
    Q a2 σ
abbrev xxr_G11_takes : Room := { frames := 0, cells := 0, slots := 0, locals := 0 }
set_option maxHeartbeats 4000000 in
set_option maxRecDepth 100000 in
theorem xxt_G11_takes (l : Launch) {D : va_G} {E : Nat → ClassId} {A : Nat → Prop} {ad sk : Nat → Nat} {y : Nat}  (a1 : Int32) (a2 : Int32) (σ : xx_S) {Q : Int32 → xx_S → Prop} (hw : xxw_G11_takes y a1 a2 σ Q) :
    Met l yX11_takes (ws_ yX11_takes cX11_takes 3 (some .int)) xxr_G11_takes (va_Pc [.ref y, .int a1, .int a2] (fun U => xx_V D E A ad sk σ U U.heap)) (va_Qi Q (fun u t => xx_W D E A ad sk u t t.heap) A) 0 0 A := by
  refine gg_entry (W0 := fun s H => xx_V D E A ad sk σ s H) (by decide) (Nat.le_of_ble_eq_true rfl) ?_
  intro p e s m args below meth c C0 hV ls hl
  have C0 : gg_C p s m args meth c RX11 cX11_takes 3 (some .int) := C0
  obtain ⟨hx, hb, hml, hown, hts, hr, hlocks⟩ := id C0
  have hl : lv_has ls 3 [(0, .ref y), (1, .int a1), (2, .int a2)] := hl
  have hS : va_S A s.heap s.heap [] := va_S.rf
  have hA : xx_A sk A s := hV.2
  have hW : xx_W D E A ad sk σ s s.heap := hV.1
  unfold xxw_G11_takes at hw
  refine lv_iload_n hx hb dX11_takes_0 rfl (lv_at hl 2 rfl) ?_
  exact gg_iret (xx_mv D E A ad sk) C0 hW hS hw dX11_takes_1
theorem cd_X12_kind : yX12_kind.cls = RX12 ∧ yX12_kind.cls ≠ "java/lang/invoke/MethodHandle" ∧ yX12_kind.cls ≠ "java/lang/invoke/VarHandle" ∧ (parseMethodDescriptor yX12_kind.desc).map (fun d => d.parameters.length) = some 0 := by decide +kernel
/-! GleanersForGaps$Lark.kind()I -/
def xxw_G12_kind (y : Nat)  (σ : xx_S) (Q : Int32 → xx_S → Prop) : Prop :=
    (∃ (k1 : Nat) (nk1 ak1 : Int32), xx_gl σ y k1 nk1 ak1 ∧ xxw_G10_kind y σ (fun r3 σ2 => Q (r3 + (2 : Int32)) σ2))
abbrev xxr_G12_kind : Room := { frames := 2, cells := 0, slots := 0, locals := 40 }
set_option maxHeartbeats 4000000 in
set_option maxRecDepth 100000 in
theorem xxt_G12_kind (l : Launch) {D : va_G} {E : Nat → ClassId} {A : Nat → Prop} {ad sk : Nat → Nat} {y : Nat}   (σ : xx_S) {Q : Int32 → xx_S → Prop} (hw : xxw_G12_kind y σ Q) :
    Met l yX12_kind (ws_ yX12_kind cX12_kind 1 (some .int)) xxr_G12_kind (va_Pc [.ref y] (fun U => xx_V D E A ad sk σ U U.heap)) (va_Qi Q (fun u t => xx_W D E A ad sk u t t.heap) A) 0 0 A := by
  refine gg_entry (W0 := fun s H => xx_V D E A ad sk σ s H) (by decide) (Nat.le_of_ble_eq_true rfl) ?_
  intro p e s m args below meth c C0 hV ls hl
  have C0 : gg_C p s m args meth c RX12 cX12_kind 1 (some .int) := C0
  obtain ⟨hx, hb, hml, hown, hts, hr, hlocks⟩ := id C0
  have hl : lv_has ls 1 [(0, .ref y)] := hl
  have hS : va_S A s.heap s.heap [] := va_S.rf
  have hA : xx_A sk A s := hV.2
  have hW : xx_W D E A ad sk σ s s.heap := hV.1
  unfold xxw_G12_kind at hw
  refine lv_aload_n hx hb dX12_kind_0 rfl (lv_at hl 0 rfl) ?_
  obtain ⟨k1, nk1, ak1, hgl, hw⟩ := hw
  obtain ⟨hrc, cC, hat⟩ := xx_glrecv hW hgl
  refine gg_SUI (cells := 0) (slots := 0) (xx_mv0 D E A ad sk σ) (xx_mv D E A ad sk) hat ⟨hx, hb, hml, hown, hts⟩ (xxt_G10_kind l _ hw) (va_cwSU 0 hts (lw_SU q328 q1752 q191 q329 q123 q330) rfl rfl rfl ⟨by decide +kernel, cd_X10_kind.2.2.2⟩ ⟨Nat.le_of_ble_eq_true rfl, Nat.le_of_ble_eq_true rfl⟩) (xx_toV hW hA hS) hrc hS rfl hl.1 rfl (Nat.le_of_ble_eq_true rfl) dX12_kind_1 ⟨Nat.zero_le _, Nat.zero_le _⟩ (fun r3 σ2 H locs hw hW hS => ?_)
  refine lv_iconst (v := (2 : Int32)) hx hb dX12_kind_4 (by decide) ?_
  refine lv_iadd hx hb dX12_kind_5 ?_
  exact gg_iret (xx_mv D E A ad sk) C0 hW hS hw dX12_kind_6
theorem cd_X12_keeps : yX12_keeps.cls = RX12 ∧ yX12_keeps.cls ≠ "java/lang/invoke/MethodHandle" ∧ yX12_keeps.cls ≠ "java/lang/invoke/VarHandle" ∧ (parseMethodDescriptor yX12_keeps.desc).map (fun d => d.parameters.length) = some 1 := by decide +kernel
/-! GleanersForGaps$Lark.keeps(I)I -/
def xxw_G12_keeps (y : Nat) (a1 : Int32) (σ : xx_S) (Q : Int32 → xx_S → Prop) : Prop :=
    (∃ (k1 : Nat) (nk1 ak1 : Int32), xx_gl σ y k1 nk1 ak1 ∧ xxw_G9_keeps y a1 σ (fun r3 σ2 => ∃ (k4 : Nat) (nk4 ak4 : Int32), xx_gl σ2 y k4 nk4 ak4 ∧ Q (r3 - nk4) σ2))
abbrev xxr_G12_keeps : Room := { frames := 1, cells := 0, slots := 0, locals := 21 }
set_option maxHeartbeats 4000000 in
set_option maxRecDepth 100000 in
theorem xxt_G12_keeps (l : Launch) {D : va_G} {E : Nat → ClassId} {A : Nat → Prop} {ad sk : Nat → Nat} {y : Nat}  (a1 : Int32) (σ : xx_S) {Q : Int32 → xx_S → Prop} (hw : xxw_G12_keeps y a1 σ Q) :
    Met l yX12_keeps (ws_ yX12_keeps cX12_keeps 2 (some .int)) xxr_G12_keeps (va_Pc [.ref y, .int a1] (fun U => xx_V D E A ad sk σ U U.heap)) (va_Qi Q (fun u t => xx_W D E A ad sk u t t.heap) A) 0 0 A := by
  refine gg_entry (W0 := fun s H => xx_V D E A ad sk σ s H) (by decide) (Nat.le_of_ble_eq_true rfl) ?_
  intro p e s m args below meth c C0 hV ls hl
  have C0 : gg_C p s m args meth c RX12 cX12_keeps 2 (some .int) := C0
  obtain ⟨hx, hb, hml, hown, hts, hr, hlocks⟩ := id C0
  have hl : lv_has ls 2 [(0, .ref y), (1, .int a1)] := hl
  have hS : va_S A s.heap s.heap [] := va_S.rf
  have hA : xx_A sk A s := hV.2
  have hW : xx_W D E A ad sk σ s s.heap := hV.1
  unfold xxw_G12_keeps at hw
  refine lv_aload_n hx hb dX12_keeps_0 rfl (lv_at hl 0 rfl) ?_
  refine lv_iload_n hx hb dX12_keeps_1 rfl (lv_at hl 1 rfl) ?_
  obtain ⟨k1, nk1, ak1, hgl, hw⟩ := hw
  obtain ⟨hrc, cC, hat⟩ := xx_glrecv hW hgl
  refine gg_SUoI (cells := 0) (slots := 0) (x := ⟨RX10, "keeps", "(I)I"⟩) (owner := RX9) (xx_mv0 D E A ad sk σ) (xx_mv D E A ad sk) hat ⟨hx, hb, hml, hown, hts⟩ (xxt_G9_keeps l _ _ hw) q355 q356 rfl q191 q173 q346 q122 q358 (by decide +kernel) cd_X9_keeps.2.2.2 rfl rfl ⟨Nat.le_of_ble_eq_true rfl, Nat.le_of_ble_eq_true rfl⟩ (xx_toV hW hA hS) hrc hS rfl hl.1 rfl (Nat.le_of_ble_eq_true rfl) dX12_keeps_2 ⟨Nat.zero_le _, Nat.zero_le _⟩ (fun r3 σ2 H locs hw hW hS => ?_)
  refine lv_aload_n hx hb dX12_keeps_5 rfl (lv_at hl 0 rfl) ?_
  obtain ⟨k4, nk4, ak4, hgl, hw⟩ := hw
  refine xx_gln hx hb hts hown hW hgl q160 (u_same (hts _ q161)) dX12_keeps_6 ?_
  refine lv_isub hx hb dX12_keeps_9 ?_
  exact gg_iret (xx_mv D E A ad sk) C0 hW hS hw dX12_keeps_10
theorem cd_X12_takes : yX12_takes.cls = RX12 ∧ yX12_takes.cls ≠ "java/lang/invoke/MethodHandle" ∧ yX12_takes.cls ≠ "java/lang/invoke/VarHandle" ∧ (parseMethodDescriptor yX12_takes.desc).map (fun d => d.parameters.length) = some 2 := by decide +kernel
/-! GleanersForGaps$Lark.takes(II)I -/
def xxw_G12_takes (y : Nat) (a1 : Int32) (a2 : Int32) (σ : xx_S) (Q : Int32 → xx_S → Prop) : Prop :=
    (((a2 = (1 : Int32)) → Q (0 : Int32) σ) ∧ (¬ (a2 = (1 : Int32)) → (∃ (k1 : Nat) (nk1 ak1 : Int32), xx_gl σ y k1 nk1 ak1 ∧ xxw_G10_takes y a1 a2 σ (fun r3 σ2 => Q r3 σ2))))
abbrev xxr_G12_takes : Room := { frames := 2, cells := 0, slots := 0, locals := 44 }
set_option maxHeartbeats 4000000 in
set_option maxRecDepth 100000 in
theorem xxt_G12_takes (l : Launch) {D : va_G} {E : Nat → ClassId} {A : Nat → Prop} {ad sk : Nat → Nat} {y : Nat}  (a1 : Int32) (a2 : Int32) (σ : xx_S) {Q : Int32 → xx_S → Prop} (hw : xxw_G12_takes y a1 a2 σ Q) :
    Met l yX12_takes (ws_ yX12_takes cX12_takes 3 (some .int)) xxr_G12_takes (va_Pc [.ref y, .int a1, .int a2] (fun U => xx_V D E A ad sk σ U U.heap)) (va_Qi Q (fun u t => xx_W D E A ad sk u t t.heap) A) 0 0 A := by
  refine gg_entry (W0 := fun s H => xx_V D E A ad sk σ s H) (by decide) (Nat.le_of_ble_eq_true rfl) ?_
  intro p e s m args below meth c C0 hV ls hl
  have C0 : gg_C p s m args meth c RX12 cX12_takes 3 (some .int) := C0
  obtain ⟨hx, hb, hml, hown, hts, hr, hlocks⟩ := id C0
  have hl : lv_has ls 3 [(0, .ref y), (1, .int a1), (2, .int a2)] := hl
  have hS : va_S A s.heap s.heap [] := va_S.rf
  have hA : xx_A sk A s := hV.2
  have hW : xx_W D E A ad sk σ s s.heap := hV.1
  unfold xxw_G12_takes at hw
  refine lv_iload_n hx hb dX12_takes_0 rfl (lv_at hl 2 rfl) ?_
  refine lv_iconst (v := (1 : Int32)) hx hb dX12_takes_1 (by decide) ?_
  refine lv_icmp_ne (tgt := 9) hx hb dX12_takes_2 (by decide) (fun c4 => ?_) (fun c4 => ?_)
  · have hw := hw.2 c4
    refine lv_aload_n hx hb dX12_takes_9 rfl (lv_at hl 0 rfl) ?_
    refine lv_iload_n hx hb dX12_takes_10 rfl (lv_at hl 1 rfl) ?_
    refine lv_iload_n hx hb dX12_takes_11 rfl (lv_at hl 2 rfl) ?_
    obtain ⟨k1, nk1, ak1, hgl, hw⟩ := hw
    obtain ⟨hrc, cC, hat⟩ := xx_glrecv hW hgl
    refine gg_SUI (cells := 0) (slots := 0) (xx_mv0 D E A ad sk σ) (xx_mv D E A ad sk) hat ⟨hx, hb, hml, hown, hts⟩ (xxt_G10_takes l _ _ _ hw) (va_cwSU 2 hts (lw_SU q909 q1756 q191 q910 q123 q911) rfl rfl rfl ⟨by decide +kernel, cd_X10_takes.2.2.2⟩ ⟨Nat.le_of_ble_eq_true rfl, Nat.le_of_ble_eq_true rfl⟩) (xx_toV hW hA hS) hrc hS rfl hl.1 rfl (Nat.le_of_ble_eq_true rfl) dX12_takes_12 ⟨Nat.zero_le _, Nat.zero_le _⟩ (fun r3 σ2 H locs hw hW hS => ?_)
    exact gg_iret (xx_mv D E A ad sk) C0 hW hS hw dX12_takes_15
  · have hw := hw.1 c4
    refine lv_iconst (v := (0 : Int32)) hx hb dX12_takes_5 (by decide) ?_
    refine lv_goto (tgt := 15) hx hb dX12_takes_6 (by decide) ?_
    exact gg_iret (xx_mv D E A ad sk) C0 hW hS hw dX12_takes_15
theorem cd_X13_kind : yX13_kind.cls = RX13 ∧ yX13_kind.cls ≠ "java/lang/invoke/MethodHandle" ∧ yX13_kind.cls ≠ "java/lang/invoke/VarHandle" ∧ (parseMethodDescriptor yX13_kind.desc).map (fun d => d.parameters.length) = some 0 := by decide +kernel
/-! GleanersForGaps$Old.kind()I -/
def xxw_G13_kind (y : Nat)  (σ : xx_S) (Q : Int32 → xx_S → Prop) : Prop :=
    (∃ (k1 : Nat) (nk1 ak1 : Int32), xx_gl σ y k1 nk1 ak1 ∧ xxw_G11_kind y σ (fun r3 σ2 => Q (r3 + (2 : Int32)) σ2))
abbrev xxr_G13_kind : Room := { frames := 2, cells := 0, slots := 0, locals := 40 }
set_option maxHeartbeats 4000000 in
set_option maxRecDepth 100000 in
theorem xxt_G13_kind (l : Launch) {D : va_G} {E : Nat → ClassId} {A : Nat → Prop} {ad sk : Nat → Nat} {y : Nat}   (σ : xx_S) {Q : Int32 → xx_S → Prop} (hw : xxw_G13_kind y σ Q) :
    Met l yX13_kind (ws_ yX13_kind cX13_kind 1 (some .int)) xxr_G13_kind (va_Pc [.ref y] (fun U => xx_V D E A ad sk σ U U.heap)) (va_Qi Q (fun u t => xx_W D E A ad sk u t t.heap) A) 0 0 A := by
  refine gg_entry (W0 := fun s H => xx_V D E A ad sk σ s H) (by decide) (Nat.le_of_ble_eq_true rfl) ?_
  intro p e s m args below meth c C0 hV ls hl
  have C0 : gg_C p s m args meth c RX13 cX13_kind 1 (some .int) := C0
  obtain ⟨hx, hb, hml, hown, hts, hr, hlocks⟩ := id C0
  have hl : lv_has ls 1 [(0, .ref y)] := hl
  have hS : va_S A s.heap s.heap [] := va_S.rf
  have hA : xx_A sk A s := hV.2
  have hW : xx_W D E A ad sk σ s s.heap := hV.1
  unfold xxw_G13_kind at hw
  refine lv_aload_n hx hb dX13_kind_0 rfl (lv_at hl 0 rfl) ?_
  obtain ⟨k1, nk1, ak1, hgl, hw⟩ := hw
  obtain ⟨hrc, cC, hat⟩ := xx_glrecv hW hgl
  refine gg_SUI (cells := 0) (slots := 0) (xx_mv0 D E A ad sk σ) (xx_mv D E A ad sk) hat ⟨hx, hb, hml, hown, hts⟩ (xxt_G11_kind l _ hw) (va_cwSU 0 hts (lw_SU q335 q1753 q200 q336 q124 q337) rfl rfl rfl ⟨by decide +kernel, cd_X11_kind.2.2.2⟩ ⟨Nat.le_of_ble_eq_true rfl, Nat.le_of_ble_eq_true rfl⟩) (xx_toV hW hA hS) hrc hS rfl hl.1 rfl (Nat.le_of_ble_eq_true rfl) dX13_kind_1 ⟨Nat.zero_le _, Nat.zero_le _⟩ (fun r3 σ2 H locs hw hW hS => ?_)
  refine lv_iconst (v := (2 : Int32)) hx hb dX13_kind_4 (by decide) ?_
  refine lv_iadd hx hb dX13_kind_5 ?_
  exact gg_iret (xx_mv D E A ad sk) C0 hW hS hw dX13_kind_6
theorem cd_X13_keeps : yX13_keeps.cls = RX13 ∧ yX13_keeps.cls ≠ "java/lang/invoke/MethodHandle" ∧ yX13_keeps.cls ≠ "java/lang/invoke/VarHandle" ∧ (parseMethodDescriptor yX13_keeps.desc).map (fun d => d.parameters.length) = some 1 := by decide +kernel
/-! GleanersForGaps$Old.keeps(I)I -/
def xxw_G13_keeps (y : Nat) (a1 : Int32) (σ : xx_S) (Q : Int32 → xx_S → Prop) : Prop :=
    (∃ (k1 : Nat) (nk1 ak1 : Int32), xx_gl σ y k1 nk1 ak1 ∧ xxw_G11_keeps y a1 σ (fun r3 σ2 => Q (r3 / (2 : Int32)) σ2))
abbrev xxr_G13_keeps : Room := { frames := 1, cells := 0, slots := 0, locals := 21 }
set_option maxHeartbeats 4000000 in
set_option maxRecDepth 100000 in
theorem xxt_G13_keeps (l : Launch) {D : va_G} {E : Nat → ClassId} {A : Nat → Prop} {ad sk : Nat → Nat} {y : Nat}  (a1 : Int32) (σ : xx_S) {Q : Int32 → xx_S → Prop} (hw : xxw_G13_keeps y a1 σ Q) :
    Met l yX13_keeps (ws_ yX13_keeps cX13_keeps 2 (some .int)) xxr_G13_keeps (va_Pc [.ref y, .int a1] (fun U => xx_V D E A ad sk σ U U.heap)) (va_Qi Q (fun u t => xx_W D E A ad sk u t t.heap) A) 0 0 A := by
  refine gg_entry (W0 := fun s H => xx_V D E A ad sk σ s H) (by decide) (Nat.le_of_ble_eq_true rfl) ?_
  intro p e s m args below meth c C0 hV ls hl
  have C0 : gg_C p s m args meth c RX13 cX13_keeps 2 (some .int) := C0
  obtain ⟨hx, hb, hml, hown, hts, hr, hlocks⟩ := id C0
  have hl : lv_has ls 2 [(0, .ref y), (1, .int a1)] := hl
  have hS : va_S A s.heap s.heap [] := va_S.rf
  have hA : xx_A sk A s := hV.2
  have hW : xx_W D E A ad sk σ s s.heap := hV.1
  unfold xxw_G13_keeps at hw
  refine lv_aload_n hx hb dX13_keeps_0 rfl (lv_at hl 0 rfl) ?_
  refine lv_iload_n hx hb dX13_keeps_1 rfl (lv_at hl 1 rfl) ?_
  obtain ⟨k1, nk1, ak1, hgl, hw⟩ := hw
  obtain ⟨hrc, cC, hat⟩ := xx_glrecv hW hgl
  refine gg_SUI (cells := 0) (slots := 0) (xx_mv0 D E A ad sk σ) (xx_mv D E A ad sk) hat ⟨hx, hb, hml, hown, hts⟩ (xxt_G11_keeps l _ _ hw) (va_cwSU 1 hts (lw_SU q362 q1754 q200 q363 q124 q364) rfl rfl rfl ⟨by decide +kernel, cd_X11_keeps.2.2.2⟩ ⟨Nat.le_of_ble_eq_true rfl, Nat.le_of_ble_eq_true rfl⟩) (xx_toV hW hA hS) hrc hS rfl hl.1 rfl (Nat.le_of_ble_eq_true rfl) dX13_keeps_2 ⟨Nat.zero_le _, Nat.zero_le _⟩ (fun r3 σ2 H locs hw hW hS => ?_)
  refine lv_iconst (v := (2 : Int32)) hx hb dX13_keeps_5 (by decide) ?_
  refine lv_idiv hx hb dX13_keeps_6 (by decide) ?_
  exact gg_iret (xx_mv D E A ad sk) C0 hW hS hw dX13_keeps_7
theorem cd_X13_takes : yX13_takes.cls = RX13 ∧ yX13_takes.cls ≠ "java/lang/invoke/MethodHandle" ∧ yX13_takes.cls ≠ "java/lang/invoke/VarHandle" ∧ (parseMethodDescriptor yX13_takes.desc).map (fun d => d.parameters.length) = some 2 := by decide +kernel
/-! GleanersForGaps$Old.takes(II)I -/
def xxw_G13_takes (y : Nat) (a1 : Int32) (a2 : Int32) (σ : xx_S) (Q : Int32 → xx_S → Prop) : Prop :=
    ∃ (k1 : Nat) (nk1 ak1 : Int32), xx_gl σ y k1 nk1 ak1 ∧ ∃ (k2 : Nat) (nk2 ak2 : Int32), xx_gl σ y k2 nk2 ak2 ∧ (((ak1 < nk2) → (∃ (k3 : Nat) (nk3 ak3 : Int32), xx_gl σ y k3 nk3 ak3 ∧ xxw_G11_takes y a1 a2 σ (fun r5 σ4 => Q r5 σ4))) ∧ (¬ (ak1 < nk2) → ∃ (k6 : Nat) (nk6 ak6 : Int32), xx_gl σ y k6 nk6 ak6 ∧ Q (-nk6) σ))
abbrev xxr_G13_takes : Room := { frames := 1, cells := 0, slots := 0, locals := 22 }
set_option maxHeartbeats 4000000 in
set_option maxRecDepth 100000 in
theorem xxt_G13_takes (l : Launch) {D : va_G} {E : Nat → ClassId} {A : Nat → Prop} {ad sk : Nat → Nat} {y : Nat}  (a1 : Int32) (a2 : Int32) (σ : xx_S) {Q : Int32 → xx_S → Prop} (hw : xxw_G13_takes y a1 a2 σ Q) :
    Met l yX13_takes (ws_ yX13_takes cX13_takes 3 (some .int)) xxr_G13_takes (va_Pc [.ref y, .int a1, .int a2] (fun U => xx_V D E A ad sk σ U U.heap)) (va_Qi Q (fun u t => xx_W D E A ad sk u t t.heap) A) 0 0 A := by
  refine gg_entry (W0 := fun s H => xx_V D E A ad sk σ s H) (by decide) (Nat.le_of_ble_eq_true rfl) ?_
  intro p e s m args below meth c C0 hV ls hl
  have C0 : gg_C p s m args meth c RX13 cX13_takes 3 (some .int) := C0
  obtain ⟨hx, hb, hml, hown, hts, hr, hlocks⟩ := id C0
  have hl : lv_has ls 3 [(0, .ref y), (1, .int a1), (2, .int a2)] := hl
  have hS : va_S A s.heap s.heap [] := va_S.rf
  have hA : xx_A sk A s := hV.2
  have hW : xx_W D E A ad sk σ s s.heap := hV.1
  unfold xxw_G13_takes at hw
  refine lv_aload_n hx hb dX13_takes_0 rfl (lv_at hl 0 rfl) ?_
  obtain ⟨k1, nk1, ak1, hgl, hw⟩ := hw
  refine xx_gla hx hb hts hown hW hgl q163 (u_same (hts _ q164)) dX13_takes_1 ?_
  refine lv_aload_n hx hb dX13_takes_4 rfl (lv_at hl 0 rfl) ?_
  obtain ⟨k2, nk2, ak2, hgl, hw⟩ := hw
  refine xx_gln hx hb hts hown hW hgl q158 (u_same (hts _ q159)) dX13_takes_5 ?_
  refine lv_icmp_lt (tgt := 19) hx hb dX13_takes_8 (by decide) (fun c7 => ?_) (fun c7 => ?_)
  · have hw := hw.1 c7
    refine lv_aload_n hx hb dX13_takes_19 rfl (lv_at hl 0 rfl) ?_
    refine lv_iload_n hx hb dX13_takes_20 rfl (lv_at hl 1 rfl) ?_
    refine lv_iload_n hx hb dX13_takes_21 rfl (lv_at hl 2 rfl) ?_
    obtain ⟨k3, nk3, ak3, hgl, hw⟩ := hw
    obtain ⟨hrc, cC, hat⟩ := xx_glrecv hW hgl
    refine gg_SUI (cells := 0) (slots := 0) (xx_mv0 D E A ad sk σ) (xx_mv D E A ad sk) hat ⟨hx, hb, hml, hown, hts⟩ (xxt_G11_takes l _ _ _ hw) (va_cwSU 2 hts (lw_SU q916 q1757 q200 q917 q124 q918) rfl rfl rfl ⟨by decide +kernel, cd_X11_takes.2.2.2⟩ ⟨Nat.le_of_ble_eq_true rfl, Nat.le_of_ble_eq_true rfl⟩) (xx_toV hW hA hS) hrc hS rfl hl.1 rfl (Nat.le_of_ble_eq_true rfl) dX13_takes_22 ⟨Nat.zero_le _, Nat.zero_le _⟩ (fun r5 σ4 H locs hw hW hS => ?_)
    exact gg_iret (xx_mv D E A ad sk) C0 hW hS hw dX13_takes_25
  · have hw := hw.2 c7
    refine lv_aload_n hx hb dX13_takes_11 rfl (lv_at hl 0 rfl) ?_
    obtain ⟨k6, nk6, ak6, hgl, hw⟩ := hw
    refine xx_gln hx hb hts hown hW hgl q158 (u_same (hts _ q159)) dX13_takes_12 ?_
    refine lv_ineg hx hb dX13_takes_15 ?_
    refine lv_goto (tgt := 25) hx hb dX13_takes_16 (by decide) ?_
    exact gg_iret (xx_mv D E A ad sk) C0 hW hS hw dX13_takes_25
theorem cd_X14_kind : yX14_kind.cls = RX14 ∧ yX14_kind.cls ≠ "java/lang/invoke/MethodHandle" ∧ yX14_kind.cls ≠ "java/lang/invoke/VarHandle" ∧ (parseMethodDescriptor yX14_kind.desc).map (fun d => d.parameters.length) = some 0 := by decide +kernel
/-! GleanersForGaps$Child.kind()I -/
def xxw_G14_kind (y : Nat)  (σ : xx_S) (Q : Int32 → xx_S → Prop) : Prop :=
    (∃ (k1 : Nat) (nk1 ak1 : Int32), xx_gl σ y k1 nk1 ak1 ∧ xxw_G9_kind y σ (fun r3 σ2 => Q (r3 + (5 : Int32)) σ2))
abbrev xxr_G14_kind : Room := { frames := 1, cells := 0, slots := 0, locals := 20 }
set_option maxHeartbeats 4000000 in
set_option maxRecDepth 100000 in
theorem xxt_G14_kind (l : Launch) {D : va_G} {E : Nat → ClassId} {A : Nat → Prop} {ad sk : Nat → Nat} {y : Nat}   (σ : xx_S) {Q : Int32 → xx_S → Prop} (hw : xxw_G14_kind y σ Q) :
    Met l yX14_kind (ws_ yX14_kind cX14_kind 1 (some .int)) xxr_G14_kind (va_Pc [.ref y] (fun U => xx_V D E A ad sk σ U U.heap)) (va_Qi Q (fun u t => xx_W D E A ad sk u t t.heap) A) 0 0 A := by
  refine gg_entry (W0 := fun s H => xx_V D E A ad sk σ s H) (by decide) (Nat.le_of_ble_eq_true rfl) ?_
  intro p e s m args below meth c C0 hV ls hl
  have C0 : gg_C p s m args meth c RX14 cX14_kind 1 (some .int) := C0
  obtain ⟨hx, hb, hml, hown, hts, hr, hlocks⟩ := id C0
  have hl : lv_has ls 1 [(0, .ref y)] := hl
  have hS : va_S A s.heap s.heap [] := va_S.rf
  have hA : xx_A sk A s := hV.2
  have hW : xx_W D E A ad sk σ s s.heap := hV.1
  unfold xxw_G14_kind at hw
  refine lv_aload_n hx hb dX14_kind_0 rfl (lv_at hl 0 rfl) ?_
  obtain ⟨k1, nk1, ak1, hgl, hw⟩ := hw
  obtain ⟨hrc, cC, hat⟩ := xx_glrecv hW hgl
  refine gg_SUI (cells := 0) (slots := 0) (xx_mv0 D E A ad sk σ) (xx_mv D E A ad sk) hat ⟨hx, hb, hml, hown, hts⟩ (xxt_G9_kind l _ hw) (va_cwSU 0 hts (lw_SU q323 q319 q209 q317 q122 q324) rfl rfl rfl ⟨by decide +kernel, cd_X9_kind.2.2.2⟩ ⟨Nat.le_of_ble_eq_true rfl, Nat.le_of_ble_eq_true rfl⟩) (xx_toV hW hA hS) hrc hS rfl hl.1 rfl (Nat.le_of_ble_eq_true rfl) dX14_kind_1 ⟨Nat.zero_le _, Nat.zero_le _⟩ (fun r3 σ2 H locs hw hW hS => ?_)
  refine lv_iconst (v := (5 : Int32)) hx hb dX14_kind_4 (by decide) ?_
  refine lv_iadd hx hb dX14_kind_5 ?_
  exact gg_iret (xx_mv D E A ad sk) C0 hW hS hw dX14_kind_6
theorem cd_X14_keeps : yX14_keeps.cls = RX14 ∧ yX14_keeps.cls ≠ "java/lang/invoke/MethodHandle" ∧ yX14_keeps.cls ≠ "java/lang/invoke/VarHandle" ∧ (parseMethodDescriptor yX14_keeps.desc).map (fun d => d.parameters.length) = some 1 := by decide +kernel
/-! GleanersForGaps$Child.keeps(I)I -/
def xxw_G14_keeps (y : Nat) (a1 : Int32) (σ : xx_S) (Q : Int32 → xx_S → Prop) : Prop :=
    Q (0 : Int32) σ
abbrev xxr_G14_keeps : Room := { frames := 0, cells := 0, slots := 0, locals := 0 }
set_option maxHeartbeats 4000000 in
set_option maxRecDepth 100000 in
theorem xxt_G14_keeps (l : Launch) {D : va_G} {E : Nat → ClassId} {A : Nat → Prop} {ad sk : Nat → Nat} {y : Nat}  (a1 : Int32) (σ : xx_S) {Q : Int32 → xx_S → Prop} (hw : xxw_G14_keeps y a1 σ Q) :
    Met l yX14_keeps (ws_ yX14_keeps cX14_keeps 2 (some .int)) xxr_G14_keeps (va_Pc [.ref y, .int a1] (fun U => xx_V D E A ad sk σ U U.heap)) (va_Qi Q (fun u t => xx_W D E A ad sk u t t.heap) A) 0 0 A := by
  refine gg_entry (W0 := fun s H => xx_V D E A ad sk σ s H) (by decide) (Nat.le_of_ble_eq_true rfl) ?_
  intro p e s m args below meth c C0 hV ls hl
  have C0 : gg_C p s m args meth c RX14 cX14_keeps 2 (some .int) := C0
  obtain ⟨hx, hb, hml, hown, hts, hr, hlocks⟩ := id C0
  have hl : lv_has ls 2 [(0, .ref y), (1, .int a1)] := hl
  have hS : va_S A s.heap s.heap [] := va_S.rf
  have hA : xx_A sk A s := hV.2
  have hW : xx_W D E A ad sk σ s s.heap := hV.1
  unfold xxw_G14_keeps at hw
  refine lv_iconst (v := (0 : Int32)) hx hb dX14_keeps_0 (by decide) ?_
  exact gg_iret (xx_mv D E A ad sk) C0 hW hS hw dX14_keeps_1
theorem cd_X14_takes : yX14_takes.cls = RX14 ∧ yX14_takes.cls ≠ "java/lang/invoke/MethodHandle" ∧ yX14_takes.cls ≠ "java/lang/invoke/VarHandle" ∧ (parseMethodDescriptor yX14_takes.desc).map (fun d => d.parameters.length) = some 2 := by decide +kernel
/-! GleanersForGaps$Child.takes(II)I -/
def xxw_G14_takes (y : Nat) (a1 : Int32) (a2 : Int32) (σ : xx_S) (Q : Int32 → xx_S → Prop) : Prop :=
    (∃ (k1 : Nat) (nk1 ak1 : Int32), xx_gl σ y k1 nk1 ak1 ∧ xxw_G9_takes y a1 a2 σ (fun r3 σ2 => Q (r3 / (2 : Int32)) σ2))
abbrev xxr_G14_takes : Room := { frames := 1, cells := 0, slots := 0, locals := 22 }
set_option maxHeartbeats 4000000 in
set_option maxRecDepth 100000 in
theorem xxt_G14_takes (l : Launch) {D : va_G} {E : Nat → ClassId} {A : Nat → Prop} {ad sk : Nat → Nat} {y : Nat}  (a1 : Int32) (a2 : Int32) (σ : xx_S) {Q : Int32 → xx_S → Prop} (hw : xxw_G14_takes y a1 a2 σ Q) :
    Met l yX14_takes (ws_ yX14_takes cX14_takes 3 (some .int)) xxr_G14_takes (va_Pc [.ref y, .int a1, .int a2] (fun U => xx_V D E A ad sk σ U U.heap)) (va_Qi Q (fun u t => xx_W D E A ad sk u t t.heap) A) 0 0 A := by
  refine gg_entry (W0 := fun s H => xx_V D E A ad sk σ s H) (by decide) (Nat.le_of_ble_eq_true rfl) ?_
  intro p e s m args below meth c C0 hV ls hl
  have C0 : gg_C p s m args meth c RX14 cX14_takes 3 (some .int) := C0
  obtain ⟨hx, hb, hml, hown, hts, hr, hlocks⟩ := id C0
  have hl : lv_has ls 3 [(0, .ref y), (1, .int a1), (2, .int a2)] := hl
  have hS : va_S A s.heap s.heap [] := va_S.rf
  have hA : xx_A sk A s := hV.2
  have hW : xx_W D E A ad sk σ s s.heap := hV.1
  unfold xxw_G14_takes at hw
  refine lv_aload_n hx hb dX14_takes_0 rfl (lv_at hl 0 rfl) ?_
  refine lv_iload_n hx hb dX14_takes_1 rfl (lv_at hl 1 rfl) ?_
  refine lv_iload_n hx hb dX14_takes_2 rfl (lv_at hl 2 rfl) ?_
  obtain ⟨k1, nk1, ak1, hgl, hw⟩ := hw
  obtain ⟨hrc, cC, hat⟩ := xx_glrecv hW hgl
  refine gg_SUI (cells := 0) (slots := 0) (xx_mv0 D E A ad sk σ) (xx_mv D E A ad sk) hat ⟨hx, hb, hml, hown, hts⟩ (xxt_G9_takes l _ _ _ hw) (va_cwSU 2 hts (lw_SU q904 q900 q209 q898 q122 q905) rfl rfl rfl ⟨by decide +kernel, cd_X9_takes.2.2.2⟩ ⟨Nat.le_of_ble_eq_true rfl, Nat.le_of_ble_eq_true rfl⟩) (xx_toV hW hA hS) hrc hS rfl hl.1 rfl (Nat.le_of_ble_eq_true rfl) dX14_takes_3 ⟨Nat.zero_le _, Nat.zero_le _⟩ (fun r3 σ2 H locs hw hW hS => ?_)
  refine lv_iconst (v := (2 : Int32)) hx hb dX14_takes_6 (by decide) ?_
  refine lv_idiv hx hb dX14_takes_7 (by decide) ?_
  exact gg_iret (xx_mv D E A ad sk) C0 hW hS hw dX14_takes_8
/-- kind, called through Gleaner: by the class of what is there -/
def xxw_vkind (y : Nat)  (σ : xx_S) (Q : Int32 → xx_S → Prop) : Prop := ∃ (k : Nat) (n a : Int32), xx_gl σ y k n a ∧ (k = 9 → xxw_G9_kind y σ Q) ∧ (k = 10 → xxw_G10_kind y σ Q) ∧ (k = 11 → xxw_G11_kind y σ Q) ∧ (k = 12 → xxw_G12_kind y σ Q) ∧ (k = 13 → xxw_G13_kind y σ Q) ∧ (k = 14 → xxw_G14_kind y σ Q)
set_option maxHeartbeats 4000000 in
theorem xx_vc_kind {p : Program} {l : Launch} {e : Env} {R : Room} {s : State} {m : MethodId} {args : Array Value} {below : List Frame} {meth : Method} {c : Code} {H : Heap} {locs : List Loc} {Q : State → Prop} {cc : ByteArray} {pc nL index : Nat} {ls : Array Slot} {rest : List Value} {own : String} {D : va_G} {E : Nat → ClassId} {A : Nat → Prop} {ad sk : Nat → Nat} {σ : xx_S} {y : Nat}  {Q1 : Int32 → xx_S → Prop}
    (S : CallFix p m c cc nL s args lw_all own) (hA : xx_A sk A s) (hw : xxw_vkind y σ Q1) (hlink : Cond.methodLink own index yX9_kind ∈ lw_all) (hR : 2 + 1 ≤ R.frames ∧ 60 ≤ R.locals)
    (hW : xx_W D E A ad sk σ s H) (hS : va_S A s.heap H locs) (hsize : ls.size = nL) (hw8 : (rest.map fun v => v.category).sum ≤ 8) (hd : decode cc pc = .ok (.invokevirtual index, 3))
    (kk : ∀ (r : Int32) (u1 : xx_S) (H1 : Heap) (locs1 : List Loc), Q1 r u1 → xx_W D E A ad sk u1 s H1 → va_S A s.heap H1 locs1 → W p l e R s m args below meth c H1 locs1 0 0 Q (F0 m (pc + 3) ls (.int r :: rest))) :
    W p l e R s m args below meth c H locs 0 0 Q (F0 m pc ls (.ref y :: rest)) := by
  have hts := S.2.2.2.2
  obtain ⟨k, n, a, hgl, w9, w10, w11, w12, w13, w14⟩ := hw
  obtain ⟨hrc, cC, hat⟩ := xx_glrecv hW hgl
  have hk : k = 9 ∨ k = 10 ∨ k = 11 ∨ k = 12 ∨ k = 13 ∨ k = 14 := by have := hgl.2.2; omega
  rcases hk with h | h | h | h | h | h <;> subst h
  · exact gg_UI (cells := 0) (slots := 0) (As := []) (xx_mv0 D E A ad sk σ) (xx_mv D E A ad sk) S (xxt_G9_kind l _ (w9 rfl)) (va_cwU (C := RX9) (owner := RX9) (x := yX9_kind) 0 hts (lw_U hlink q319 q318 q317 q122 q324) rfl rfl rfl rfl ⟨by decide +kernel, by decide +kernel, cd_X9_kind.2.2.2⟩ ⟨Nat.le_trans (Nat.le_of_ble_eq_true rfl) hR.1, Nat.le_trans (Nat.le_of_ble_eq_true rfl) hR.2⟩) (xx_toV hW hA hS) hrc hS rfl hsize rfl hw8 hd ⟨Nat.zero_le _, Nat.zero_le _⟩ kk
  · exact gg_UI (cells := 0) (slots := 0) (As := []) (xx_mv0 D E A ad sk σ) (xx_mv D E A ad sk) S (xxt_G10_kind l _ (w10 rfl)) (va_cwO (C := RX10) (owner := RX9) (x := yX9_kind) 0 hts (lw_O hlink q319 q317 q340 q329 q123 q330) rfl rfl rfl q324 ⟨by decide +kernel, by decide +kernel, cd_X9_kind.2.2.2⟩ ⟨Nat.le_trans (Nat.le_of_ble_eq_true rfl) hR.1, Nat.le_trans (Nat.le_of_ble_eq_true rfl) hR.2⟩) (xx_toV hW hA hS) hrc hS rfl hsize rfl hw8 hd ⟨Nat.zero_le _, Nat.zero_le _⟩ kk
  · exact gg_UI (cells := 0) (slots := 0) (As := []) (xx_mv0 D E A ad sk σ) (xx_mv D E A ad sk) S (xxt_G11_kind l _ (w11 rfl)) (va_cwO (C := RX11) (owner := RX9) (x := yX9_kind) 0 hts (lw_O hlink q319 q317 q339 q336 q124 q337) rfl rfl rfl q324 ⟨by decide +kernel, by decide +kernel, cd_X9_kind.2.2.2⟩ ⟨Nat.le_trans (Nat.le_of_ble_eq_true rfl) hR.1, Nat.le_trans (Nat.le_of_ble_eq_true rfl) hR.2⟩) (xx_toV hW hA hS) hrc hS rfl hsize rfl hw8 hd ⟨Nat.zero_le _, Nat.zero_le _⟩ kk
  · exact gg_UI (cells := 0) (slots := 0) (As := []) (xx_mv0 D E A ad sk σ) (xx_mv D E A ad sk) S (xxt_G12_kind l _ (w12 rfl)) (va_cwO (C := RX12) (owner := RX9) (x := yX9_kind) 0 hts (lw_O hlink q319 q317 q325 q326 q125 q327) rfl rfl rfl q324 ⟨by decide +kernel, by decide +kernel, cd_X9_kind.2.2.2⟩ ⟨Nat.le_trans (Nat.le_of_ble_eq_true rfl) hR.1, Nat.le_trans (Nat.le_of_ble_eq_true rfl) hR.2⟩) (xx_toV hW hA hS) hrc hS rfl hsize rfl hw8 hd ⟨Nat.zero_le _, Nat.zero_le _⟩ kk
  · exact gg_UI (cells := 0) (slots := 0) (As := []) (xx_mv0 D E A ad sk σ) (xx_mv D E A ad sk) S (xxt_G13_kind l _ (w13 rfl)) (va_cwO (C := RX13) (owner := RX9) (x := yX9_kind) 0 hts (lw_O hlink q319 q317 q332 q333 q126 q334) rfl rfl rfl q324 ⟨by decide +kernel, by decide +kernel, cd_X9_kind.2.2.2⟩ ⟨Nat.le_trans (Nat.le_of_ble_eq_true rfl) hR.1, Nat.le_trans (Nat.le_of_ble_eq_true rfl) hR.2⟩) (xx_toV hW hA hS) hrc hS rfl hsize rfl hw8 hd ⟨Nat.zero_le _, Nat.zero_le _⟩ kk
  · exact gg_UI (cells := 0) (slots := 0) (As := []) (xx_mv0 D E A ad sk σ) (xx_mv D E A ad sk) S (xxt_G14_kind l _ (w14 rfl)) (va_cwO (C := RX14) (owner := RX9) (x := yX9_kind) 0 hts (lw_O hlink q319 q317 q320 q321 q127 q322) rfl rfl rfl q324 ⟨by decide +kernel, by decide +kernel, cd_X9_kind.2.2.2⟩ ⟨Nat.le_trans (Nat.le_of_ble_eq_true rfl) hR.1, Nat.le_trans (Nat.le_of_ble_eq_true rfl) hR.2⟩) (xx_toV hW hA hS) hrc hS rfl hsize rfl hw8 hd ⟨Nat.zero_le _, Nat.zero_le _⟩ kk
/-- keeps, called through Gleaner: by the class of what is there -/
def xxw_vkeeps (y : Nat) (b0 : Int32) (σ : xx_S) (Q : Int32 → xx_S → Prop) : Prop := ∃ (k : Nat) (n a : Int32), xx_gl σ y k n a ∧ (k = 9 → xxw_G9_keeps y b0 σ Q) ∧ (k = 10 → xxw_G9_keeps y b0 σ Q) ∧ (k = 11 → xxw_G11_keeps y b0 σ Q) ∧ (k = 12 → xxw_G12_keeps y b0 σ Q) ∧ (k = 13 → xxw_G13_keeps y b0 σ Q) ∧ (k = 14 → xxw_G14_keeps y b0 σ Q)
set_option maxHeartbeats 4000000 in
theorem xx_vc_keeps {p : Program} {l : Launch} {e : Env} {R : Room} {s : State} {m : MethodId} {args : Array Value} {below : List Frame} {meth : Method} {c : Code} {H : Heap} {locs : List Loc} {Q : State → Prop} {cc : ByteArray} {pc nL index : Nat} {ls : Array Slot} {rest : List Value} {own : String} {D : va_G} {E : Nat → ClassId} {A : Nat → Prop} {ad sk : Nat → Nat} {σ : xx_S} {y : Nat} {b0 : Int32} {Q1 : Int32 → xx_S → Prop}
    (S : CallFix p m c cc nL s args lw_all own) (hA : xx_A sk A s) (hw : xxw_vkeeps y b0 σ Q1) (hlink : Cond.methodLink own index yX9_keeps ∈ lw_all) (hR : 1 + 1 ≤ R.frames ∧ 42 ≤ R.locals)
    (hW : xx_W D E A ad sk σ s H) (hS : va_S A s.heap H locs) (hsize : ls.size = nL) (hw8 : (rest.map fun v => v.category).sum ≤ 8) (hd : decode cc pc = .ok (.invokevirtual index, 3))
    (kk : ∀ (r : Int32) (u1 : xx_S) (H1 : Heap) (locs1 : List Loc), Q1 r u1 → xx_W D E A ad sk u1 s H1 → va_S A s.heap H1 locs1 → W p l e R s m args below meth c H1 locs1 0 0 Q (F0 m (pc + 3) ls (.int r :: rest))) :
    W p l e R s m args below meth c H locs 0 0 Q (F0 m pc ls (.int b0 :: .ref y :: rest)) := by
  have hts := S.2.2.2.2
  obtain ⟨k, n, a, hgl, w9, w10, w11, w12, w13, w14⟩ := hw
  obtain ⟨hrc, cC, hat⟩ := xx_glrecv hW hgl
  have hk : k = 9 ∨ k = 10 ∨ k = 11 ∨ k = 12 ∨ k = 13 ∨ k = 14 := by have := hgl.2.2; omega
  rcases hk with h | h | h | h | h | h <;> subst h
  · exact gg_UI (cells := 0) (slots := 0) (As := [.int b0]) (xx_mv0 D E A ad sk σ) (xx_mv D E A ad sk) S (xxt_G9_keeps l _ _ (w9 rfl)) (va_cwU (C := RX9) (owner := RX9) (x := yX9_keeps) 1 hts (lw_U hlink q348 q347 q346 q122 q358) rfl rfl rfl rfl ⟨by decide +kernel, by decide +kernel, cd_X9_keeps.2.2.2⟩ ⟨Nat.le_trans (Nat.le_of_ble_eq_true rfl) hR.1, Nat.le_trans (Nat.le_of_ble_eq_true rfl) hR.2⟩) (xx_toV hW hA hS) hrc hS rfl hsize rfl hw8 hd ⟨Nat.zero_le _, Nat.zero_le _⟩ kk
  · exact gg_UI (cells := 0) (slots := 0) (As := [.int b0]) (xx_mv0 D E A ad sk σ) (xx_mv D E A ad sk) S (xxt_G9_keeps l _ _ (w10 rfl)) (va_cwU (C := RX10) (owner := RX9) (x := yX9_keeps) 1 hts (lw_U hlink q348 q366 q346 q122 q358) rfl rfl rfl rfl ⟨by decide +kernel, by decide +kernel, cd_X9_keeps.2.2.2⟩ ⟨Nat.le_trans (Nat.le_of_ble_eq_true rfl) hR.1, Nat.le_trans (Nat.le_of_ble_eq_true rfl) hR.2⟩) (xx_toV hW hA hS) hrc hS rfl hsize rfl hw8 hd ⟨Nat.zero_le _, Nat.zero_le _⟩ kk
  · exact gg_UI (cells := 0) (slots := 0) (As := [.int b0]) (xx_mv0 D E A ad sk σ) (xx_mv D E A ad sk) S (xxt_G11_keeps l _ _ (w11 rfl)) (va_cwO (C := RX11) (owner := RX9) (x := yX9_keeps) 1 hts (lw_O hlink q348 q346 q365 q363 q124 q364) rfl rfl rfl q358 ⟨by decide +kernel, by decide +kernel, cd_X9_keeps.2.2.2⟩ ⟨Nat.le_trans (Nat.le_of_ble_eq_true rfl) hR.1, Nat.le_trans (Nat.le_of_ble_eq_true rfl) hR.2⟩) (xx_toV hW hA hS) hrc hS rfl hsize rfl hw8 hd ⟨Nat.zero_le _, Nat.zero_le _⟩ kk
  · exact gg_UI (cells := 0) (slots := 0) (As := [.int b0]) (xx_mv0 D E A ad sk σ) (xx_mv D E A ad sk) S (xxt_G12_keeps l _ _ (w12 rfl)) (va_cwO (C := RX12) (owner := RX9) (x := yX9_keeps) 1 hts (lw_O hlink q348 q346 q352 q353 q125 q354) rfl rfl rfl q358 ⟨by decide +kernel, by decide +kernel, cd_X9_keeps.2.2.2⟩ ⟨Nat.le_trans (Nat.le_of_ble_eq_true rfl) hR.1, Nat.le_trans (Nat.le_of_ble_eq_true rfl) hR.2⟩) (xx_toV hW hA hS) hrc hS rfl hsize rfl hw8 hd ⟨Nat.zero_le _, Nat.zero_le _⟩ kk
  · exact gg_UI (cells := 0) (slots := 0) (As := [.int b0]) (xx_mv0 D E A ad sk σ) (xx_mv D E A ad sk) S (xxt_G13_keeps l _ _ (w13 rfl)) (va_cwO (C := RX13) (owner := RX9) (x := yX9_keeps) 1 hts (lw_O hlink q348 q346 q359 q360 q126 q361) rfl rfl rfl q358 ⟨by decide +kernel, by decide +kernel, cd_X9_keeps.2.2.2⟩ ⟨Nat.le_trans (Nat.le_of_ble_eq_true rfl) hR.1, Nat.le_trans (Nat.le_of_ble_eq_true rfl) hR.2⟩) (xx_toV hW hA hS) hrc hS rfl hsize rfl hw8 hd ⟨Nat.zero_le _, Nat.zero_le _⟩ kk
  · exact gg_UI (cells := 0) (slots := 0) (As := [.int b0]) (xx_mv0 D E A ad sk σ) (xx_mv D E A ad sk) S (xxt_G14_keeps l _ _ (w14 rfl)) (va_cwO (C := RX14) (owner := RX9) (x := yX9_keeps) 1 hts (lw_O hlink q348 q346 q349 q350 q127 q351) rfl rfl rfl q358 ⟨by decide +kernel, by decide +kernel, cd_X9_keeps.2.2.2⟩ ⟨Nat.le_trans (Nat.le_of_ble_eq_true rfl) hR.1, Nat.le_trans (Nat.le_of_ble_eq_true rfl) hR.2⟩) (xx_toV hW hA hS) hrc hS rfl hsize rfl hw8 hd ⟨Nat.zero_le _, Nat.zero_le _⟩ kk
/-- takes, called through Gleaner: by the class of what is there -/
def xxw_vtakes (y : Nat) (b0 : Int32) (b1 : Int32) (σ : xx_S) (Q : Int32 → xx_S → Prop) : Prop := ∃ (k : Nat) (n a : Int32), xx_gl σ y k n a ∧ (k = 9 → xxw_G9_takes y b0 b1 σ Q) ∧ (k = 10 → xxw_G10_takes y b0 b1 σ Q) ∧ (k = 11 → xxw_G11_takes y b0 b1 σ Q) ∧ (k = 12 → xxw_G12_takes y b0 b1 σ Q) ∧ (k = 13 → xxw_G13_takes y b0 b1 σ Q) ∧ (k = 14 → xxw_G14_takes y b0 b1 σ Q)
set_option maxHeartbeats 4000000 in
theorem xx_vc_takes {p : Program} {l : Launch} {e : Env} {R : Room} {s : State} {m : MethodId} {args : Array Value} {below : List Frame} {meth : Method} {c : Code} {H : Heap} {locs : List Loc} {Q : State → Prop} {cc : ByteArray} {pc nL index : Nat} {ls : Array Slot} {rest : List Value} {own : String} {D : va_G} {E : Nat → ClassId} {A : Nat → Prop} {ad sk : Nat → Nat} {σ : xx_S} {y : Nat} {b0 : Int32} {b1 : Int32} {Q1 : Int32 → xx_S → Prop}
    (S : CallFix p m c cc nL s args lw_all own) (hA : xx_A sk A s) (hw : xxw_vtakes y b0 b1 σ Q1) (hlink : Cond.methodLink own index yX9_takes ∈ lw_all) (hR : 2 + 1 ≤ R.frames ∧ 66 ≤ R.locals)
    (hW : xx_W D E A ad sk σ s H) (hS : va_S A s.heap H locs) (hsize : ls.size = nL) (hw8 : (rest.map fun v => v.category).sum ≤ 8) (hd : decode cc pc = .ok (.invokevirtual index, 3))
    (kk : ∀ (r : Int32) (u1 : xx_S) (H1 : Heap) (locs1 : List Loc), Q1 r u1 → xx_W D E A ad sk u1 s H1 → va_S A s.heap H1 locs1 → W p l e R s m args below meth c H1 locs1 0 0 Q (F0 m (pc + 3) ls (.int r :: rest))) :
    W p l e R s m args below meth c H locs 0 0 Q (F0 m pc ls (.int b1 :: .int b0 :: .ref y :: rest)) := by
  have hts := S.2.2.2.2
  obtain ⟨k, n, a, hgl, w9, w10, w11, w12, w13, w14⟩ := hw
  obtain ⟨hrc, cC, hat⟩ := xx_glrecv hW hgl
  have hk : k = 9 ∨ k = 10 ∨ k = 11 ∨ k = 12 ∨ k = 13 ∨ k = 14 := by have := hgl.2.2; omega
  rcases hk with h | h | h | h | h | h <;> subst h
  · exact gg_UI (cells := 0) (slots := 0) (As := [.int b0, .int b1]) (xx_mv0 D E A ad sk σ) (xx_mv D E A ad sk) S (xxt_G9_takes l _ _ _ (w9 rfl)) (va_cwU (C := RX9) (owner := RX9) (x := yX9_takes) 2 hts (lw_U hlink q900 q899 q898 q122 q905) rfl rfl rfl rfl ⟨by decide +kernel, by decide +kernel, cd_X9_takes.2.2.2⟩ ⟨Nat.le_trans (Nat.le_of_ble_eq_true rfl) hR.1, Nat.le_trans (Nat.le_of_ble_eq_true rfl) hR.2⟩) (xx_toV hW hA hS) hrc hS rfl hsize rfl hw8 hd ⟨Nat.zero_le _, Nat.zero_le _⟩ kk
  · exact gg_UI (cells := 0) (slots := 0) (As := [.int b0, .int b1]) (xx_mv0 D E A ad sk σ) (xx_mv D E A ad sk) S (xxt_G10_takes l _ _ _ (w10 rfl)) (va_cwO (C := RX10) (owner := RX9) (x := yX9_takes) 2 hts (lw_O hlink q900 q898 q920 q910 q123 q911) rfl rfl rfl q905 ⟨by decide +kernel, by decide +kernel, cd_X9_takes.2.2.2⟩ ⟨Nat.le_trans (Nat.le_of_ble_eq_true rfl) hR.1, Nat.le_trans (Nat.le_of_ble_eq_true rfl) hR.2⟩) (xx_toV hW hA hS) hrc hS rfl hsize rfl hw8 hd ⟨Nat.zero_le _, Nat.zero_le _⟩ kk
  · exact gg_UI (cells := 0) (slots := 0) (As := [.int b0, .int b1]) (xx_mv0 D E A ad sk σ) (xx_mv D E A ad sk) S (xxt_G11_takes l _ _ _ (w11 rfl)) (va_cwO (C := RX11) (owner := RX9) (x := yX9_takes) 2 hts (lw_O hlink q900 q898 q919 q917 q124 q918) rfl rfl rfl q905 ⟨by decide +kernel, by decide +kernel, cd_X9_takes.2.2.2⟩ ⟨Nat.le_trans (Nat.le_of_ble_eq_true rfl) hR.1, Nat.le_trans (Nat.le_of_ble_eq_true rfl) hR.2⟩) (xx_toV hW hA hS) hrc hS rfl hsize rfl hw8 hd ⟨Nat.zero_le _, Nat.zero_le _⟩ kk
  · exact gg_UI (cells := 0) (slots := 0) (As := [.int b0, .int b1]) (xx_mv0 D E A ad sk σ) (xx_mv D E A ad sk) S (xxt_G12_takes l _ _ _ (w12 rfl)) (va_cwO (C := RX12) (owner := RX9) (x := yX9_takes) 2 hts (lw_O hlink q900 q898 q906 q907 q125 q908) rfl rfl rfl q905 ⟨by decide +kernel, by decide +kernel, cd_X9_takes.2.2.2⟩ ⟨Nat.le_trans (Nat.le_of_ble_eq_true rfl) hR.1, Nat.le_trans (Nat.le_of_ble_eq_true rfl) hR.2⟩) (xx_toV hW hA hS) hrc hS rfl hsize rfl hw8 hd ⟨Nat.zero_le _, Nat.zero_le _⟩ kk
  · exact gg_UI (cells := 0) (slots := 0) (As := [.int b0, .int b1]) (xx_mv0 D E A ad sk σ) (xx_mv D E A ad sk) S (xxt_G13_takes l _ _ _ (w13 rfl)) (va_cwO (C := RX13) (owner := RX9) (x := yX9_takes) 2 hts (lw_O hlink q900 q898 q913 q914 q126 q915) rfl rfl rfl q905 ⟨by decide +kernel, by decide +kernel, cd_X9_takes.2.2.2⟩ ⟨Nat.le_trans (Nat.le_of_ble_eq_true rfl) hR.1, Nat.le_trans (Nat.le_of_ble_eq_true rfl) hR.2⟩) (xx_toV hW hA hS) hrc hS rfl hsize rfl hw8 hd ⟨Nat.zero_le _, Nat.zero_le _⟩ kk
  · exact gg_UI (cells := 0) (slots := 0) (As := [.int b0, .int b1]) (xx_mv0 D E A ad sk σ) (xx_mv D E A ad sk) S (xxt_G14_takes l _ _ _ (w14 rfl)) (va_cwO (C := RX14) (owner := RX9) (x := yX9_takes) 2 hts (lw_O hlink q900 q898 q901 q902 q127 q903) rfl rfl rfl q905 ⟨by decide +kernel, by decide +kernel, cd_X9_takes.2.2.2⟩ ⟨Nat.le_trans (Nat.le_of_ble_eq_true rfl) hR.1, Nat.le_trans (Nat.le_of_ble_eq_true rfl) hR.2⟩) (xx_toV hW hA hS) hrc hS rfl hsize rfl hw8 hd ⟨Nat.zero_le _, Nat.zero_le _⟩ kk
theorem cd_X9_taking : yX9_taking.cls = RX9 ∧ yX9_taking.cls ≠ "java/lang/invoke/MethodHandle" ∧ yX9_taking.cls ≠ "java/lang/invoke/VarHandle" ∧ (parseMethodDescriptor yX9_taking.desc).map (fun d => d.parameters.length) = some 2 := by decide +kernel
/-! GleanersForGaps$Gleaner.taking(II)I -/
def xxw_G9_taking (y : Nat) (a1 : Int32) (a2 : Int32) (σ : xx_S) (Q : Int32 → xx_S → Prop) : Prop :=
    (xxw_vtakes y a1 a2 σ (fun r2 σ1 => (((0 ≤ r2) → Q (if a2 < r2 then a2 else r2) σ1) ∧ (¬ (0 ≤ r2) → Q r2 σ1))))
abbrev xxr_G9_taking : Room := { frames := 3, cells := 0, slots := 0, locals := 66 }
set_option maxHeartbeats 4000000 in
set_option maxRecDepth 100000 in
theorem xxt_G9_taking (l : Launch) {D : va_G} {E : Nat → ClassId} {A : Nat → Prop} {ad sk : Nat → Nat} {y : Nat}  (a1 : Int32) (a2 : Int32) (σ : xx_S) {Q : Int32 → xx_S → Prop} (hw : xxw_G9_taking y a1 a2 σ Q) :
    Met l yX9_taking (ws_ yX9_taking cX9_taking 4 (some .int)) xxr_G9_taking (va_Pc [.ref y, .int a1, .int a2] (fun U => xx_V D E A ad sk σ U U.heap)) (va_Qi Q (fun u t => xx_W D E A ad sk u t t.heap) A) 0 0 A := by
  refine gg_entry (W0 := fun s H => xx_V D E A ad sk σ s H) (by decide) (Nat.le_of_ble_eq_true rfl) ?_
  intro p e s m args below meth c C0 hV ls hl
  have C0 : gg_C p s m args meth c RX9 cX9_taking 4 (some .int) := C0
  obtain ⟨hx, hb, hml, hown, hts, hr, hlocks⟩ := id C0
  have hl : lv_has ls 4 [(0, .ref y), (1, .int a1), (2, .int a2)] := hl
  have hS : va_S A s.heap s.heap [] := va_S.rf
  have hA : xx_A sk A s := hV.2
  have hW : xx_W D E A ad sk σ s s.heap := hV.1
  unfold xxw_G9_taking at hw
  refine lv_aload_n hx hb dX9_taking_0 rfl (lv_at hl 0 rfl) ?_
  refine lv_iload_n hx hb dX9_taking_1 rfl (lv_at hl 1 rfl) ?_
  refine lv_iload_n hx hb dX9_taking_2 rfl (lv_at hl 2 rfl) ?_
  refine xx_vc_takes ⟨hx, hb, hml, hown, hts⟩ hA hw q897 ⟨Nat.le_of_ble_eq_true rfl, Nat.le_of_ble_eq_true rfl⟩ hW hS hl.1 (Nat.le_of_ble_eq_true rfl) dX9_taking_3 (fun r2 σ1 H locs hw hW hS => ?_)
  refine lv_istore_n (lv' := [(3, .int r2), (0, .ref y), (1, .int a1), (2, .int a2)]) hx hb dX9_taking_6 rfl hl (by decide) rfl (fun ls hl => ?_)
  refine lv_iload_n hx hb dX9_taking_7 rfl (lv_at hl 0 rfl) ?_
  refine lv_if_ge (tgt := 15) hx hb dX9_taking_8 (by decide) (fun c3 => ?_) (fun c3 => ?_)
  · have hw := hw.1 c3
    refine lv_iload_n hx hb dX9_taking_15 rfl (lv_at hl 0 rfl) ?_
    refine lv_iload_n hx hb dX9_taking_16 rfl (lv_at hl 3 rfl) ?_
    refine va_mmin hx hb (hml.trans hl.1.symm) hown (hts _ q921) (hts _ q309) (hts _ q113) (hts _ q310) (Nat.le_of_ble_eq_true rfl) (Nat.le_of_ble_eq_true rfl) (Nat.zero_le _) (Nat.zero_le _) dX9_taking_17 ?_
    exact gg_iret (xx_mv D E A ad sk) C0 hW hS hw dX9_taking_20
  · have hw := hw.2 c3
    refine lv_iload_n hx hb dX9_taking_11 rfl (lv_at hl 0 rfl) ?_
    refine lv_goto (tgt := 20) hx hb dX9_taking_12 (by decide) ?_
    exact gg_iret (xx_mv D E A ad sk) C0 hW hS hw dX9_taking_20
/-- taking, called through Gleaner: by the class of what is there -/
def xxw_vtaking (y : Nat) (b0 : Int32) (b1 : Int32) (σ : xx_S) (Q : Int32 → xx_S → Prop) : Prop := ∃ (k : Nat) (n a : Int32), xx_gl σ y k n a ∧ (k = 9 → xxw_G9_taking y b0 b1 σ Q) ∧ (k = 10 → xxw_G9_taking y b0 b1 σ Q) ∧ (k = 11 → xxw_G9_taking y b0 b1 σ Q) ∧ (k = 12 → xxw_G9_taking y b0 b1 σ Q) ∧ (k = 13 → xxw_G9_taking y b0 b1 σ Q) ∧ (k = 14 → xxw_G9_taking y b0 b1 σ Q)
set_option maxHeartbeats 4000000 in
theorem xx_vc_taking {p : Program} {l : Launch} {e : Env} {R : Room} {s : State} {m : MethodId} {args : Array Value} {below : List Frame} {meth : Method} {c : Code} {H : Heap} {locs : List Loc} {Q : State → Prop} {cc : ByteArray} {pc nL index : Nat} {ls : Array Slot} {rest : List Value} {own : String} {D : va_G} {E : Nat → ClassId} {A : Nat → Prop} {ad sk : Nat → Nat} {σ : xx_S} {y : Nat} {b0 : Int32} {b1 : Int32} {Q1 : Int32 → xx_S → Prop}
    (S : CallFix p m c cc nL s args lw_all own) (hA : xx_A sk A s) (hw : xxw_vtaking y b0 b1 σ Q1) (hlink : Cond.methodLink own index yX9_taking ∈ lw_all) (hR : 3 + 1 ≤ R.frames ∧ 89 ≤ R.locals)
    (hW : xx_W D E A ad sk σ s H) (hS : va_S A s.heap H locs) (hsize : ls.size = nL) (hw8 : (rest.map fun v => v.category).sum ≤ 8) (hd : decode cc pc = .ok (.invokevirtual index, 3))
    (kk : ∀ (r : Int32) (u1 : xx_S) (H1 : Heap) (locs1 : List Loc), Q1 r u1 → xx_W D E A ad sk u1 s H1 → va_S A s.heap H1 locs1 → W p l e R s m args below meth c H1 locs1 0 0 Q (F0 m (pc + 3) ls (.int r :: rest))) :
    W p l e R s m args below meth c H locs 0 0 Q (F0 m pc ls (.int b1 :: .int b0 :: .ref y :: rest)) := by
  have hts := S.2.2.2.2
  obtain ⟨k, n, a, hgl, w9, w10, w11, w12, w13, w14⟩ := hw
  obtain ⟨hrc, cC, hat⟩ := xx_glrecv hW hgl
  have hk : k = 9 ∨ k = 10 ∨ k = 11 ∨ k = 12 ∨ k = 13 ∨ k = 14 := by have := hgl.2.2; omega
  rcases hk with h | h | h | h | h | h <;> subst h
  · exact gg_UI (cells := 0) (slots := 0) (As := [.int b0, .int b1]) (xx_mv0 D E A ad sk σ) (xx_mv D E A ad sk) S (xxt_G9_taking l _ _ _ (w9 rfl)) (va_cwU (C := RX9) (owner := RX9) (x := yX9_taking) 2 hts (lw_U hlink q890 q889 q888 q122 q896) rfl rfl rfl rfl ⟨by decide +kernel, by decide +kernel, cd_X9_taking.2.2.2⟩ ⟨Nat.le_trans (Nat.le_of_ble_eq_true rfl) hR.1, Nat.le_trans (Nat.le_of_ble_eq_true rfl) hR.2⟩) (xx_toV hW hA hS) hrc hS rfl hsize rfl hw8 hd ⟨Nat.zero_le _, Nat.zero_le _⟩ kk
  · exact gg_UI (cells := 0) (slots := 0) (As := [.int b0, .int b1]) (xx_mv0 D E A ad sk σ) (xx_mv D E A ad sk) S (xxt_G9_taking l _ _ _ (w10 rfl)) (va_cwU (C := RX10) (owner := RX9) (x := yX9_taking) 2 hts (lw_U hlink q890 q895 q888 q122 q896) rfl rfl rfl rfl ⟨by decide +kernel, by decide +kernel, cd_X9_taking.2.2.2⟩ ⟨Nat.le_trans (Nat.le_of_ble_eq_true rfl) hR.1, Nat.le_trans (Nat.le_of_ble_eq_true rfl) hR.2⟩) (xx_toV hW hA hS) hrc hS rfl hsize rfl hw8 hd ⟨Nat.zero_le _, Nat.zero_le _⟩ kk
  · exact gg_UI (cells := 0) (slots := 0) (As := [.int b0, .int b1]) (xx_mv0 D E A ad sk σ) (xx_mv D E A ad sk) S (xxt_G9_taking l _ _ _ (w11 rfl)) (va_cwU (C := RX11) (owner := RX9) (x := yX9_taking) 2 hts (lw_U hlink q890 q894 q888 q122 q896) rfl rfl rfl rfl ⟨by decide +kernel, by decide +kernel, cd_X9_taking.2.2.2⟩ ⟨Nat.le_trans (Nat.le_of_ble_eq_true rfl) hR.1, Nat.le_trans (Nat.le_of_ble_eq_true rfl) hR.2⟩) (xx_toV hW hA hS) hrc hS rfl hsize rfl hw8 hd ⟨Nat.zero_le _, Nat.zero_le _⟩ kk
  · exact gg_UI (cells := 0) (slots := 0) (As := [.int b0, .int b1]) (xx_mv0 D E A ad sk σ) (xx_mv D E A ad sk) S (xxt_G9_taking l _ _ _ (w12 rfl)) (va_cwU (C := RX12) (owner := RX9) (x := yX9_taking) 2 hts (lw_U hlink q890 q892 q888 q122 q896) rfl rfl rfl rfl ⟨by decide +kernel, by decide +kernel, cd_X9_taking.2.2.2⟩ ⟨Nat.le_trans (Nat.le_of_ble_eq_true rfl) hR.1, Nat.le_trans (Nat.le_of_ble_eq_true rfl) hR.2⟩) (xx_toV hW hA hS) hrc hS rfl hsize rfl hw8 hd ⟨Nat.zero_le _, Nat.zero_le _⟩ kk
  · exact gg_UI (cells := 0) (slots := 0) (As := [.int b0, .int b1]) (xx_mv0 D E A ad sk σ) (xx_mv D E A ad sk) S (xxt_G9_taking l _ _ _ (w13 rfl)) (va_cwU (C := RX13) (owner := RX9) (x := yX9_taking) 2 hts (lw_U hlink q890 q893 q888 q122 q896) rfl rfl rfl rfl ⟨by decide +kernel, by decide +kernel, cd_X9_taking.2.2.2⟩ ⟨Nat.le_trans (Nat.le_of_ble_eq_true rfl) hR.1, Nat.le_trans (Nat.le_of_ble_eq_true rfl) hR.2⟩) (xx_toV hW hA hS) hrc hS rfl hsize rfl hw8 hd ⟨Nat.zero_le _, Nat.zero_le _⟩ kk
  · exact gg_UI (cells := 0) (slots := 0) (As := [.int b0, .int b1]) (xx_mv0 D E A ad sk σ) (xx_mv D E A ad sk) S (xxt_G9_taking l _ _ _ (w14 rfl)) (va_cwU (C := RX14) (owner := RX9) (x := yX9_taking) 2 hts (lw_U hlink q890 q891 q888 q122 q896) rfl rfl rfl rfl ⟨by decide +kernel, by decide +kernel, cd_X9_taking.2.2.2⟩ ⟨Nat.le_trans (Nat.le_of_ble_eq_true rfl) hR.1, Nat.le_trans (Nat.le_of_ble_eq_true rfl) hR.2⟩) (xx_toV hW hA hS) hrc hS rfl hsize rfl hw8 hd ⟨Nat.zero_le _, Nat.zero_le _⟩ kk
