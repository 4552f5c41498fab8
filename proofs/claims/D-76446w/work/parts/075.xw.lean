theorem cd_X0_isKey : yX0_isKey.cls = RX0 ∧ yX0_isKey.cls ≠ "java/lang/invoke/MethodHandle" ∧ yX0_isKey.cls ≠ "java/lang/invoke/VarHandle" ∧ (parseMethodDescriptor yX0_isKey.desc).map (fun d => d.parameters.length) = some 1 := by decide +kernel
/-! GleanersForGaps.isKey(I)Z -/
def xxw_isKey  (a1 : Int32) (σ : xx_S) (Q : Int32 → xx_S → Prop) : Prop :=
    ((((xx_g σ 0 21) = (1 : Int32)) → ((((xx_g σ 0 22) = a1) → Q (1 : Int32) σ) ∧ (¬ ((xx_g σ 0 22) = a1) → Q (0 : Int32) σ))) ∧ (¬ ((xx_g σ 0 21) = (1 : Int32)) → Q (0 : Int32) σ))
abbrev xxr_isKey : Room := { frames := 0, cells := 0, slots := 0, locals := 0 }
set_option maxHeartbeats 4000000 in
set_option maxRecDepth 100000 in
theorem xxt_isKey (l : Launch) {D : va_G} {E : Nat → ClassId} {A : Nat → Prop} {ad sk : Nat → Nat}  (a1 : Int32) (σ : xx_S) {Q : Int32 → xx_S → Prop} (hw : xxw_isKey a1 σ Q) :
    Met l yX0_isKey (ws_ yX0_isKey cX0_isKey 2 (some .boolean)) xxr_isKey (va_Pc [.ref (ad 0), .int a1] (fun U => xx_V D E A ad sk σ U U.heap)) (va_Qi (fun r u => (r = 0 ∨ r = 1) ∧ Q r u) (fun u t => xx_W D E A ad sk u t t.heap) A) 0 0 A := by
  refine gg_entry (W0 := fun s H => xx_V D E A ad sk σ s H) (by decide) (Nat.le_of_ble_eq_true rfl) ?_
  intro p e s m args below meth c C0 hV ls hl
  have C0 : gg_C p s m args meth c RX0 cX0_isKey 2 (some .boolean) := C0
  obtain ⟨hx, hb, hml, hown, hts, hr, hlocks⟩ := id C0
  have hl : lv_has ls 2 [(0, .ref (ad 0)), (1, .int a1)] := hl
  have hS : va_S A s.heap s.heap [] := va_S.rf
  have hA : xx_A sk A s := hV.2
  have hW : xx_W D E A ad sk σ s s.heap := hV.1
  unfold xxw_isKey at hw
  refine lv_aload_n hx hb dX0_isKey_0 rfl (lv_at hl 0 rfl) ?_
  refine xx_geti hx hb hts hown hW 21 (by decide) q771 dX0_isKey_1 ?_
  refine lv_iconst (v := (1 : Int32)) hx hb dX0_isKey_4 (by decide) ?_
  refine lv_icmp_ne (tgt := 20) hx hb dX0_isKey_5 (by decide) (fun c2 => ?_) (fun c2 => ?_)
  · have hw := hw.2 c2
    refine lv_iconst (v := (0 : Int32)) hx hb dX0_isKey_20 (by decide) ?_
    exact gg_zret (xx_mv D E A ad sk) C0 hW hS (Or.inl rfl) hw dX0_isKey_21
  · have hw := hw.1 c2
    refine lv_aload_n hx hb dX0_isKey_8 rfl (lv_at hl 0 rfl) ?_
    refine xx_geti hx hb hts hown hW 22 (by decide) q772 dX0_isKey_9 ?_
    refine lv_iload_n hx hb dX0_isKey_12 rfl (lv_at hl 1 rfl) ?_
    refine lv_icmp_ne (tgt := 20) hx hb dX0_isKey_13 (by decide) (fun c1 => ?_) (fun c1 => ?_)
    · have hw := hw.2 c1
      refine lv_iconst (v := (0 : Int32)) hx hb dX0_isKey_20 (by decide) ?_
      exact gg_zret (xx_mv D E A ad sk) C0 hW hS (Or.inl rfl) hw dX0_isKey_21
    · have hw := hw.1 c1
      refine lv_iconst (v := (1 : Int32)) hx hb dX0_isKey_16 (by decide) ?_
      refine lv_goto (tgt := 21) hx hb dX0_isKey_17 (by decide) ?_
      exact gg_zret (xx_mv D E A ad sk) C0 hW hS (Or.inr rfl) hw dX0_isKey_21
theorem cd_X0_byteAt : yX0_byteAt.cls = RX0 ∧ yX0_byteAt.cls ≠ "java/lang/invoke/MethodHandle" ∧ yX0_byteAt.cls ≠ "java/lang/invoke/VarHandle" ∧ (parseMethodDescriptor yX0_byteAt.desc).map (fun d => d.parameters.length) = some 1 := by decide +kernel
/-! GleanersForGaps.byteAt(I)I -/
def xxw_byteAt  (a1 : Int32) (σ : xx_S) (Q : Int32 → xx_S → Prop) : Prop :=
    ((((xx_g σ 0 18) ≤ a1) → Q (-1 : Int32) σ) ∧ (¬ ((xx_g σ 0 18) ≤ a1) → vp_in a1 160 ∧ Q ((xx_g σ 30 a1.toNatClampNeg) &&& (255 : Int32)) σ))
abbrev xxr_byteAt : Room := { frames := 0, cells := 0, slots := 0, locals := 0 }
set_option maxHeartbeats 4000000 in
set_option maxRecDepth 100000 in
theorem xxt_byteAt (l : Launch) {D : va_G} {E : Nat → ClassId} {A : Nat → Prop} {ad sk : Nat → Nat}  (a1 : Int32) (σ : xx_S) {Q : Int32 → xx_S → Prop} (hw : xxw_byteAt a1 σ Q) :
    Met l yX0_byteAt (ws_ yX0_byteAt cX0_byteAt 2 (some .int)) xxr_byteAt (va_Pc [.ref (ad 0), .int a1] (fun U => xx_V D E A ad sk σ U U.heap)) (va_Qi Q (fun u t => xx_W D E A ad sk u t t.heap) A) 0 0 A := by
  refine gg_entry (W0 := fun s H => xx_V D E A ad sk σ s H) (by decide) (Nat.le_of_ble_eq_true rfl) ?_
  intro p e s m args below meth c C0 hV ls hl
  have C0 : gg_C p s m args meth c RX0 cX0_byteAt 2 (some .int) := C0
  obtain ⟨hx, hb, hml, hown, hts, hr, hlocks⟩ := id C0
  have hl : lv_has ls 2 [(0, .ref (ad 0)), (1, .int a1)] := hl
  have hS : va_S A s.heap s.heap [] := va_S.rf
  have hA : xx_A sk A s := hV.2
  have hW : xx_W D E A ad sk σ s s.heap := hV.1
  unfold xxw_byteAt at hw
  refine lv_iload_n hx hb dX0_byteAt_0 rfl (lv_at hl 1 rfl) ?_
  refine lv_aload_n hx hb dX0_byteAt_1 rfl (lv_at hl 0 rfl) ?_
  refine xx_geti hx hb hts hown hW 18 (by decide) q768 dX0_byteAt_2 ?_
  refine lv_icmp_ge (tgt := 21) hx hb dX0_byteAt_5 (by decide) (fun c1 => ?_) (fun c1 => ?_)
  · have hw := hw.1 c1
    refine lv_iconst (v := (-1 : Int32)) hx hb dX0_byteAt_21 (by decide) ?_
    exact gg_iret (xx_mv D E A ad sk) C0 hW hS hw dX0_byteAt_22
  · have hw := hw.2 c1
    refine lv_aload_n hx hb dX0_byteAt_8 rfl (lv_at hl 0 rfl) ?_
    refine xx_getr hx hb hts hown hW 16 30 (by decide) q766 dX0_byteAt_9 ?_
    refine lv_iload_n hx hb dX0_byteAt_12 rfl (lv_at hl 1 rfl) ?_
    obtain ⟨hin, hw⟩ := hw
    refine xx_bld hx hb hW hin dX0_byteAt_13 ?_
    refine lv_sipush (v := (255 : Int32)) hx hb dX0_byteAt_14 (by decide) ?_
    refine lv_iand hx hb dX0_byteAt_17 ?_
    refine lv_goto (tgt := 22) hx hb dX0_byteAt_18 (by decide) ?_
    exact gg_iret (xx_mv D E A ad sk) C0 hW hS hw dX0_byteAt_22
theorem cd_X0_isDigit : yX0_isDigit.cls = RX0 ∧ yX0_isDigit.cls ≠ "java/lang/invoke/MethodHandle" ∧ yX0_isDigit.cls ≠ "java/lang/invoke/VarHandle" ∧ (parseMethodDescriptor yX0_isDigit.desc).map (fun d => d.parameters.length) = some 1 := by decide +kernel
/-! GleanersForGaps.isDigit(I)Z -/
def xxw_isDigit  (a0 : Int32) (σ : xx_S) (Q : Int32 → xx_S → Prop) : Prop :=
    (xxw_in ((a0).toInt64) (48 : Int64) (57 : Int64) σ (fun r2 σ1 => Q r2 σ1))
abbrev xxr_isDigit : Room := { frames := 1, cells := 0, slots := 0, locals := 25 }
set_option maxHeartbeats 4000000 in
set_option maxRecDepth 100000 in
theorem xxt_isDigit (l : Launch) {D : va_G} {E : Nat → ClassId} {A : Nat → Prop} {ad sk : Nat → Nat}  (a0 : Int32) (σ : xx_S) {Q : Int32 → xx_S → Prop} (hw : xxw_isDigit a0 σ Q) :
    Met l yX0_isDigit (ws_ yX0_isDigit cX0_isDigit 1 (some .boolean)) xxr_isDigit (va_Pc [.int a0] (fun U => xx_V D E A ad sk σ U U.heap)) (va_Qi (fun r u => (r = 0 ∨ r = 1) ∧ Q r u) (fun u t => xx_W D E A ad sk u t t.heap) A) 0 0 A := by
  refine gg_entry (W0 := fun s H => xx_V D E A ad sk σ s H) (by decide) (Nat.le_of_ble_eq_true rfl) ?_
  intro p e s m args below meth c C0 hV ls hl
  have C0 : gg_C p s m args meth c RX0 cX0_isDigit 1 (some .boolean) := C0
  obtain ⟨hx, hb, hml, hown, hts, hr, hlocks⟩ := id C0
  have hl : lv_has ls 1 [(0, .int a0)] := hl
  have hS : va_S A s.heap s.heap [] := va_S.rf
  have hA : xx_A sk A s := hV.2
  have hW : xx_W D E A ad sk σ s s.heap := hV.1
  unfold xxw_isDigit at hw
  refine lv_iload_n hx hb dX0_isDigit_0 rfl (lv_at hl 0 rfl) ?_
  refine lv_i2l (v := (a0).toInt64) hx hb dX0_isDigit_1 rfl ?_
  refine lv_ldc2 (own := RX0) (v := (48 : Int64)) hx hb hown (hts _ q464) dX0_isDigit_2 ?_
  refine lv_ldc2 (own := RX0) (v := (57 : Int64)) hx hb hown (hts _ q465) dX0_isDigit_5 ?_
  refine xx_SI ⟨hx, hb, hml, hown, hts⟩ hA (xxt_in l _ _ _ _ hw) (va_cwS 3 hts (lw_S q139 q140 q103 q141) rfl rfl rfl cd_X0_in.2 ⟨Nat.le_of_ble_eq_true rfl, Nat.le_of_ble_eq_true rfl⟩) hW hS rfl hl.1 rfl (Nat.le_of_ble_eq_true rfl) dX0_isDigit_8 (fun r2 σ1 H locs hw hW hS => ?_)
  obtain ⟨hz_r2, hw⟩ := hw
  exact gg_zret (xx_mv D E A ad sk) C0 hW hS (hz_r2) hw dX0_isDigit_11
theorem cd_X0_isLetter : yX0_isLetter.cls = RX0 ∧ yX0_isLetter.cls ≠ "java/lang/invoke/MethodHandle" ∧ yX0_isLetter.cls ≠ "java/lang/invoke/VarHandle" ∧ (parseMethodDescriptor yX0_isLetter.desc).map (fun d => d.parameters.length) = some 1 := by decide +kernel
/-! GleanersForGaps.isLetter(I)Z -/
def xxw_isLetter  (a0 : Int32) (σ : xx_S) (Q : Int32 → xx_S → Prop) : Prop :=
    (xxw_in ((a0).toInt64) (97 : Int64) (122 : Int64) σ (fun r2 σ1 => Q r2 σ1))
abbrev xxr_isLetter : Room := { frames := 1, cells := 0, slots := 0, locals := 25 }
set_option maxHeartbeats 4000000 in
set_option maxRecDepth 100000 in
theorem xxt_isLetter (l : Launch) {D : va_G} {E : Nat → ClassId} {A : Nat → Prop} {ad sk : Nat → Nat}  (a0 : Int32) (σ : xx_S) {Q : Int32 → xx_S → Prop} (hw : xxw_isLetter a0 σ Q) :
    Met l yX0_isLetter (ws_ yX0_isLetter cX0_isLetter 1 (some .boolean)) xxr_isLetter (va_Pc [.int a0] (fun U => xx_V D E A ad sk σ U U.heap)) (va_Qi (fun r u => (r = 0 ∨ r = 1) ∧ Q r u) (fun u t => xx_W D E A ad sk u t t.heap) A) 0 0 A := by
  refine gg_entry (W0 := fun s H => xx_V D E A ad sk σ s H) (by decide) (Nat.le_of_ble_eq_true rfl) ?_
  intro p e s m args below meth c C0 hV ls hl
  have C0 : gg_C p s m args meth c RX0 cX0_isLetter 1 (some .boolean) := C0
  obtain ⟨hx, hb, hml, hown, hts, hr, hlocks⟩ := id C0
  have hl : lv_has ls 1 [(0, .int a0)] := hl
  have hS : va_S A s.heap s.heap [] := va_S.rf
  have hA : xx_A sk A s := hV.2
  have hW : xx_W D E A ad sk σ s s.heap := hV.1
  unfold xxw_isLetter at hw
  refine lv_iload_n hx hb dX0_isLetter_0 rfl (lv_at hl 0 rfl) ?_
  refine lv_i2l (v := (a0).toInt64) hx hb dX0_isLetter_1 rfl ?_
  refine lv_ldc2 (own := RX0) (v := (97 : Int64)) hx hb hown (hts _ q403) dX0_isLetter_2 ?_
  refine lv_ldc2 (own := RX0) (v := (122 : Int64)) hx hb hown (hts _ q404) dX0_isLetter_5 ?_
  refine xx_SI ⟨hx, hb, hml, hown, hts⟩ hA (xxt_in l _ _ _ _ hw) (va_cwS 3 hts (lw_S q139 q140 q103 q141) rfl rfl rfl cd_X0_in.2 ⟨Nat.le_of_ble_eq_true rfl, Nat.le_of_ble_eq_true rfl⟩) hW hS rfl hl.1 rfl (Nat.le_of_ble_eq_true rfl) dX0_isLetter_8 (fun r2 σ1 H locs hw hW hS => ?_)
  obtain ⟨hz_r2, hw⟩ := hw
  exact gg_zret (xx_mv D E A ad sk) C0 hW hS (hz_r2) hw dX0_isLetter_11
theorem cd_X0_isSign : yX0_isSign.cls = RX0 ∧ yX0_isSign.cls ≠ "java/lang/invoke/MethodHandle" ∧ yX0_isSign.cls ≠ "java/lang/invoke/VarHandle" ∧ (parseMethodDescriptor yX0_isSign.desc).map (fun d => d.parameters.length) = some 1 := by decide +kernel
/-! GleanersForGaps.isSign(I)Z -/
def xxw_isSign  (a1 : Int32) (σ : xx_S) (Q : Int32 → xx_S → Prop) : Prop :=
    ((((xx_g σ 0 21) = (4 : Int32)) → ((((xx_g σ 0 22) = a1) → Q (1 : Int32) σ) ∧ (¬ ((xx_g σ 0 22) = a1) → Q (0 : Int32) σ))) ∧ (¬ ((xx_g σ 0 21) = (4 : Int32)) → Q (0 : Int32) σ))
abbrev xxr_isSign : Room := { frames := 0, cells := 0, slots := 0, locals := 0 }
set_option maxHeartbeats 4000000 in
set_option maxRecDepth 100000 in
theorem xxt_isSign (l : Launch) {D : va_G} {E : Nat → ClassId} {A : Nat → Prop} {ad sk : Nat → Nat}  (a1 : Int32) (σ : xx_S) {Q : Int32 → xx_S → Prop} (hw : xxw_isSign a1 σ Q) :
    Met l yX0_isSign (ws_ yX0_isSign cX0_isSign 2 (some .boolean)) xxr_isSign (va_Pc [.ref (ad 0), .int a1] (fun U => xx_V D E A ad sk σ U U.heap)) (va_Qi (fun r u => (r = 0 ∨ r = 1) ∧ Q r u) (fun u t => xx_W D E A ad sk u t t.heap) A) 0 0 A := by
  refine gg_entry (W0 := fun s H => xx_V D E A ad sk σ s H) (by decide) (Nat.le_of_ble_eq_true rfl) ?_
  intro p e s m args below meth c C0 hV ls hl
  have C0 : gg_C p s m args meth c RX0 cX0_isSign 2 (some .boolean) := C0
  obtain ⟨hx, hb, hml, hown, hts, hr, hlocks⟩ := id C0
  have hl : lv_has ls 2 [(0, .ref (ad 0)), (1, .int a1)] := hl
  have hS : va_S A s.heap s.heap [] := va_S.rf
  have hA : xx_A sk A s := hV.2
  have hW : xx_W D E A ad sk σ s s.heap := hV.1
  unfold xxw_isSign at hw
  refine lv_aload_n hx hb dX0_isSign_0 rfl (lv_at hl 0 rfl) ?_
  refine xx_geti hx hb hts hown hW 21 (by decide) q771 dX0_isSign_1 ?_
  refine lv_iconst (v := (4 : Int32)) hx hb dX0_isSign_4 (by decide) ?_
  refine lv_icmp_ne (tgt := 20) hx hb dX0_isSign_5 (by decide) (fun c2 => ?_) (fun c2 => ?_)
  · have hw := hw.2 c2
    refine lv_iconst (v := (0 : Int32)) hx hb dX0_isSign_20 (by decide) ?_
    exact gg_zret (xx_mv D E A ad sk) C0 hW hS (Or.inl rfl) hw dX0_isSign_21
  · have hw := hw.1 c2
    refine lv_aload_n hx hb dX0_isSign_8 rfl (lv_at hl 0 rfl) ?_
    refine xx_geti hx hb hts hown hW 22 (by decide) q772 dX0_isSign_9 ?_
    refine lv_iload_n hx hb dX0_isSign_12 rfl (lv_at hl 1 rfl) ?_
    refine lv_icmp_ne (tgt := 20) hx hb dX0_isSign_13 (by decide) (fun c1 => ?_) (fun c1 => ?_)
    · have hw := hw.2 c1
      refine lv_iconst (v := (0 : Int32)) hx hb dX0_isSign_20 (by decide) ?_
      exact gg_zret (xx_mv D E A ad sk) C0 hW hS (Or.inl rfl) hw dX0_isSign_21
    · have hw := hw.1 c1
      refine lv_iconst (v := (1 : Int32)) hx hb dX0_isSign_16 (by decide) ?_
      refine lv_goto (tgt := 21) hx hb dX0_isSign_17 (by decide) ?_
      exact gg_zret (xx_mv D E A ad sk) C0 hW hS (Or.inr rfl) hw dX0_isSign_21
theorem cd_X0_isText : yX0_isText.cls = RX0 ∧ yX0_isText.cls ≠ "java/lang/invoke/MethodHandle" ∧ yX0_isText.cls ≠ "java/lang/invoke/VarHandle" ∧ (parseMethodDescriptor yX0_isText.desc).map (fun d => d.parameters.length) = some 1 := by decide +kernel
/-! GleanersForGaps.isText(I)Z -/
def xxw_isText  (a1 : Int32) (σ : xx_S) (Q : Int32 → xx_S → Prop) : Prop :=
    (xxw_in ((a1).toInt64) (0 : Int64) ((((xx_g σ 0 13) - (1 : Int32))).toInt64) σ (fun r2 σ1 => Q r2 σ1))
abbrev xxr_isText : Room := { frames := 1, cells := 0, slots := 0, locals := 25 }
set_option maxHeartbeats 4000000 in
set_option maxRecDepth 100000 in
theorem xxt_isText (l : Launch) {D : va_G} {E : Nat → ClassId} {A : Nat → Prop} {ad sk : Nat → Nat}  (a1 : Int32) (σ : xx_S) {Q : Int32 → xx_S → Prop} (hw : xxw_isText a1 σ Q) :
    Met l yX0_isText (ws_ yX0_isText cX0_isText 2 (some .boolean)) xxr_isText (va_Pc [.ref (ad 0), .int a1] (fun U => xx_V D E A ad sk σ U U.heap)) (va_Qi (fun r u => (r = 0 ∨ r = 1) ∧ Q r u) (fun u t => xx_W D E A ad sk u t t.heap) A) 0 0 A := by
  refine gg_entry (W0 := fun s H => xx_V D E A ad sk σ s H) (by decide) (Nat.le_of_ble_eq_true rfl) ?_
  intro p e s m args below meth c C0 hV ls hl
  have C0 : gg_C p s m args meth c RX0 cX0_isText 2 (some .boolean) := C0
  obtain ⟨hx, hb, hml, hown, hts, hr, hlocks⟩ := id C0
  have hl : lv_has ls 2 [(0, .ref (ad 0)), (1, .int a1)] := hl
  have hS : va_S A s.heap s.heap [] := va_S.rf
  have hA : xx_A sk A s := hV.2
  have hW : xx_W D E A ad sk σ s s.heap := hV.1
  unfold xxw_isText at hw
  refine lv_iload_n hx hb dX0_isText_0 rfl (lv_at hl 1 rfl) ?_
  refine lv_i2l (v := (a1).toInt64) hx hb dX0_isText_1 rfl ?_
  refine lv_lconst (v := (0 : Int64)) hx hb dX0_isText_2 (by decide) ?_
  refine lv_aload_n hx hb dX0_isText_3 rfl (lv_at hl 0 rfl) ?_
  refine xx_geti hx hb hts hown hW 13 (by decide) q763 dX0_isText_4 ?_
  refine lv_iconst (v := (1 : Int32)) hx hb dX0_isText_7 (by decide) ?_
  refine lv_isub hx hb dX0_isText_8 ?_
  refine lv_i2l (v := (((xx_g σ 0 13) - (1 : Int32))).toInt64) hx hb dX0_isText_9 rfl ?_
  refine xx_SI ⟨hx, hb, hml, hown, hts⟩ hA (xxt_in l _ _ _ _ hw) (va_cwS 3 hts (lw_S q139 q140 q103 q141) rfl rfl rfl cd_X0_in.2 ⟨Nat.le_of_ble_eq_true rfl, Nat.le_of_ble_eq_true rfl⟩) hW hS rfl hl.1 rfl (Nat.le_of_ble_eq_true rfl) dX0_isText_10 (fun r2 σ1 H locs hw hW hS => ?_)
  obtain ⟨hz_r2, hw⟩ := hw
  exact gg_zret (xx_mv D E A ad sk) C0 hW hS (hz_r2) hw dX0_isText_13
theorem cd_X0_force : yX0_force.cls = RX0 ∧ yX0_force.cls ≠ "java/lang/invoke/MethodHandle" ∧ yX0_force.cls ≠ "java/lang/invoke/VarHandle" ∧ (parseMethodDescriptor yX0_force.desc).map (fun d => d.parameters.length) = some 1 := by decide +kernel
/-! GleanersForGaps.force(I)I -/
def xxw_force  (a1 : Int32) (σ : xx_S) (Q : Int32 → xx_S → Prop) : Prop :=
    (xxw_isText a1 σ (fun r2 σ1 => (((r2 = 0) → Q (-2 : Int32) σ1) ∧ (¬ (r2 = 0) → (∀ σ3 : xx_S, σ3 = xx_s σ1 0 24 a1 → Q (xx_g σ1 0 24) σ3)))))
abbrev xxr_force : Room := { frames := 2, cells := 0, slots := 0, locals := 46 }
set_option maxHeartbeats 4000000 in
set_option maxRecDepth 100000 in
theorem xxt_force (l : Launch) {D : va_G} {E : Nat → ClassId} {A : Nat → Prop} {ad sk : Nat → Nat}  (a1 : Int32) (σ : xx_S) {Q : Int32 → xx_S → Prop} (hw : xxw_force a1 σ Q) :
    Met l yX0_force (ws_ yX0_force cX0_force 3 (some .int)) xxr_force (va_Pc [.ref (ad 0), .int a1] (fun U => xx_V D E A ad sk σ U U.heap)) (va_Qi Q (fun u t => xx_W D E A ad sk u t t.heap) A) 0 0 A := by
  refine gg_entry (W0 := fun s H => xx_V D E A ad sk σ s H) (by decide) (Nat.le_of_ble_eq_true rfl) ?_
  intro p e s m args below meth c C0 hV ls hl
  have C0 : gg_C p s m args meth c RX0 cX0_force 3 (some .int) := C0
  obtain ⟨hx, hb, hml, hown, hts, hr, hlocks⟩ := id C0
  have hl : lv_has ls 3 [(0, .ref (ad 0)), (1, .int a1)] := hl
  have hS : va_S A s.heap s.heap [] := va_S.rf
  have hA : xx_A sk A s := hV.2
  have hW : xx_W D E A ad sk σ s s.heap := hV.1
  unfold xxw_force at hw
  refine lv_aload_n hx hb dX0_force_0 rfl (lv_at hl 0 rfl) ?_
  refine lv_iload_n hx hb dX0_force_1 rfl (lv_at hl 1 rfl) ?_
  refine xx_VI ⟨hx, hb, hml, hown, hts⟩ hA (xxt_isText l _ _ hw) (cwV 1 hts (lw_V q875 q877 qs32 q103 q878) rfl rfl rfl cd_X0_isText ⟨Nat.le_of_ble_eq_true rfl, Nat.le_of_ble_eq_true rfl⟩) hW (xx_recv hW) hS rfl hl.1 rfl (Nat.le_of_ble_eq_true rfl) dX0_force_2 (fun r2 σ1 H locs hw hW hS => ?_)
  obtain ⟨hz_r2, hw⟩ := hw
  refine lv_if_ne (tgt := 11) hx hb dX0_force_5 (by decide) (fun c4 => ?_) (fun c4 => ?_)
  · have hw := hw.2 c4
    refine lv_aload_n hx hb dX0_force_11 rfl (lv_at hl 0 rfl) ?_
    refine xx_geti hx hb hts hown hW 24 (by decide) q774 dX0_force_12 ?_
    refine lv_istore_n (lv' := [(2, .int (xx_g σ1 0 24)), (0, .ref (ad 0)), (1, .int a1)]) hx hb dX0_force_15 rfl hl (by decide) rfl (fun ls hl => ?_)
    refine lv_aload_n hx hb dX0_force_16 rfl (lv_at hl 1 rfl) ?_
    refine lv_iload_n hx hb dX0_force_17 rfl (lv_at hl 2 rfl) ?_
    refine xx_puti hx hb hts hown hW hS 24 (by decide) q774 rfl rfl rfl dX0_force_18 (fun H locs hW hS => ?_)
    obtain ⟨σ3, eσ3⟩ : ∃ z, z = xx_s σ1 0 24 a1 := ⟨_, rfl⟩
    rw [← eσ3] at hW
    have hw := hw σ3 eσ3
    refine lv_iload_n hx hb dX0_force_21 rfl (lv_at hl 0 rfl) ?_
    exact gg_iret (xx_mv D E A ad sk) C0 hW hS hw dX0_force_22
  · have hw := hw.1 c4
    refine lv_bipush (v := (-2 : Int32)) hx hb dX0_force_8 (by decide) ?_
    exact gg_iret (xx_mv D E A ad sk) C0 hW hS hw dX0_force_10
theorem cd_X0_takingOf : yX0_takingOf.cls = RX0 ∧ yX0_takingOf.cls ≠ "java/lang/invoke/MethodHandle" ∧ yX0_takingOf.cls ≠ "java/lang/invoke/VarHandle" ∧ (parseMethodDescriptor yX0_takingOf.desc).map (fun d => d.parameters.length) = some 4 := by decide +kernel
/-! GleanersForGaps.takingOf(IIII)I -/
def xxw_takingOf  (a1 : Int32) (a2 : Int32) (a3 : Int32) (a4 : Int32) (σ : xx_S) (Q : Int32 → xx_S → Prop) : Prop :=
    (xxw_looksAt a1 σ (fun σ1 => vp_in a1 5 ∧ ∃ y2 : Nat, xx_r σ1 43 a1.toNatClampNeg = some y2 ∧ (xxw_says (0 : Int32) a2 a3 a4 σ1 (fun r4 σ3 => (xxw_held r4 (0 : Int32) (99 : Int32) σ3 (fun r6 σ5 => (xxw_vtaking y2 r6 a2 σ5 (fun r8 σ7 => Q r8 σ7))))))))
abbrev xxr_takingOf : Room := { frames := 203, cells := 0, slots := 0, locals := 6024 }
set_option maxHeartbeats 4000000 in
set_option maxRecDepth 100000 in
theorem xxt_takingOf (l : Launch) {D : va_G} {E : Nat → ClassId} {A : Nat → Prop} {ad sk : Nat → Nat}  (a1 : Int32) (a2 : Int32) (a3 : Int32) (a4 : Int32) (σ : xx_S) {Q : Int32 → xx_S → Prop} (hw : xxw_takingOf a1 a2 a3 a4 σ Q) :
    Met l yX0_takingOf (ws_ yX0_takingOf cX0_takingOf 5 (some .int)) xxr_takingOf (va_Pc [.ref (ad 0), .int a1, .int a2, .int a3, .int a4] (fun U => xx_V D E A ad sk σ U U.heap)) (va_Qi Q (fun u t => xx_W D E A ad sk u t t.heap) A) 0 0 A := by
  refine gg_entry (W0 := fun s H => xx_V D E A ad sk σ s H) (by decide) (Nat.le_of_ble_eq_true rfl) ?_
  intro p e s m args below meth c C0 hV ls hl
  have C0 : gg_C p s m args meth c RX0 cX0_takingOf 5 (some .int) := C0
  obtain ⟨hx, hb, hml, hown, hts, hr, hlocks⟩ := id C0
  have hl : lv_has ls 5 [(0, .ref (ad 0)), (1, .int a1), (2, .int a2), (3, .int a3), (4, .int a4)] := hl
  have hS : va_S A s.heap s.heap [] := va_S.rf
  have hA : xx_A sk A s := hV.2
  have hW : xx_W D E A ad sk σ s s.heap := hV.1
  unfold xxw_takingOf at hw
  refine lv_aload_n hx hb dX0_takingOf_0 rfl (lv_at hl 0 rfl) ?_
  refine lv_iload_n hx hb dX0_takingOf_1 rfl (lv_at hl 1 rfl) ?_
  refine xx_VV ⟨hx, hb, hml, hown, hts⟩ hA (xxt_looksAt l _ _ hw) (cwV 1 hts (lw_V q280 q282 qs8 q103 q283) rfl rfl rfl cd_X0_looksAt ⟨Nat.le_of_ble_eq_true rfl, Nat.le_of_ble_eq_true rfl⟩) hW (xx_recv hW) hS rfl hl.1 rfl (Nat.le_of_ble_eq_true rfl) dX0_takingOf_2 (fun σ1 H locs hw hW hS => ?_)
  refine lv_aload_n hx hb dX0_takingOf_5 rfl (lv_at hl 0 rfl) ?_
  refine xx_getr hx hb hts hown hW 0 43 (by decide) q744 dX0_takingOf_6 ?_
  refine lv_iload_n hx hb dX0_takingOf_9 rfl (lv_at hl 1 rfl) ?_
  obtain ⟨hin, y2, hy, hw⟩ := hw
  refine xx_aldF hx hb hW hin hy dX0_takingOf_10 ?_
  refine lv_aload_n hx hb dX0_takingOf_11 rfl (lv_at hl 0 rfl) ?_
  refine lv_iconst (v := (0 : Int32)) hx hb dX0_takingOf_12 (by decide) ?_
  refine lv_iload_n hx hb dX0_takingOf_13 rfl (lv_at hl 2 rfl) ?_
  refine lv_iload_n hx hb dX0_takingOf_14 rfl (lv_at hl 3 rfl) ?_
  refine lv_iload hx hb dX0_takingOf_15 (lv_at hl 4 rfl) ?_
  refine xx_VI ⟨hx, hb, hml, hown, hts⟩ hA (xxt_says l _ _ _ _ _ hw) (cwV 4 hts (lw_V q284 q286 qs9 q103 q287) rfl rfl rfl cd_X0_says ⟨Nat.le_of_ble_eq_true rfl, Nat.le_of_ble_eq_true rfl⟩) hW (xx_recv hW) hS rfl hl.1 rfl (Nat.le_of_ble_eq_true rfl) dX0_takingOf_17 (fun r4 σ3 H locs hw hW hS => ?_)
  refine lv_iconst (v := (0 : Int32)) hx hb dX0_takingOf_20 (by decide) ?_
  refine lv_bipush (v := (99 : Int32)) hx hb dX0_takingOf_21 (by decide) ?_
  refine xx_SI ⟨hx, hb, hml, hown, hts⟩ hA (xxt_held l _ _ _ _ hw) (va_cwS 3 hts (lw_S q305 q306 q103 q307) rfl rfl rfl cd_X0_held.2 ⟨Nat.le_of_ble_eq_true rfl, Nat.le_of_ble_eq_true rfl⟩) hW hS rfl hl.1 rfl (Nat.le_of_ble_eq_true rfl) dX0_takingOf_23 (fun r6 σ5 H locs hw hW hS => ?_)
  refine lv_iload_n hx hb dX0_takingOf_26 rfl (lv_at hl 2 rfl) ?_
  refine xx_vc_taking ⟨hx, hb, hml, hown, hts⟩ hA hw q887 ⟨Nat.le_of_ble_eq_true rfl, Nat.le_of_ble_eq_true rfl⟩ hW hS hl.1 (Nat.le_of_ble_eq_true rfl) dX0_takingOf_27 (fun r8 σ7 H locs hw hW hS => ?_)
  exact gg_iret (xx_mv D E A ad sk) C0 hW hS hw dX0_takingOf_30
theorem cd_X0_asks : yX0_asks.cls = RX0 ∧ yX0_asks.cls ≠ "java/lang/invoke/MethodHandle" ∧ yX0_asks.cls ≠ "java/lang/invoke/VarHandle" ∧ (parseMethodDescriptor yX0_asks.desc).map (fun d => d.parameters.length) = some 2 := by decide +kernel
/-! GleanersForGaps.asks(II)I -/
def xxw_asks  (a1 : Int32) (a2 : Int32) (σ : xx_S) (Q : Int32 → xx_S → Prop) : Prop :=
    (xxw_isOne a1 σ (fun r2 σ1 => (((r2 = 0) → Q (-100 : Int32) σ1) ∧ (¬ (r2 = 0) → (xxw_in ((a2).toInt64) (1 : Int64) (24 : Int64) σ1 (fun r4 σ3 => (((r4 = 0) → Q (-100 : Int32) σ3) ∧ (¬ (r4 = 0) → (xxw_takingOf a1 a2 (0 : Int32) (24 : Int32) σ3 (fun r6 σ5 => Q r6 σ5))))))))))
abbrev xxr_asks : Room := { frames := 204, cells := 0, slots := 0, locals := 6048 }
set_option maxHeartbeats 4000000 in
set_option maxRecDepth 100000 in
theorem xxt_asks (l : Launch) {D : va_G} {E : Nat → ClassId} {A : Nat → Prop} {ad sk : Nat → Nat}  (a1 : Int32) (a2 : Int32) (σ : xx_S) {Q : Int32 → xx_S → Prop} (hw : xxw_asks a1 a2 σ Q) :
    Met l yX0_asks (ws_ yX0_asks cX0_asks 3 (some .int)) xxr_asks (va_Pc [.ref (ad 0), .int a1, .int a2] (fun U => xx_V D E A ad sk σ U U.heap)) (va_Qi Q (fun u t => xx_W D E A ad sk u t t.heap) A) 0 0 A := by
  refine gg_entry (W0 := fun s H => xx_V D E A ad sk σ s H) (by decide) (Nat.le_of_ble_eq_true rfl) ?_
  intro p e s m args below meth c C0 hV ls hl
  have C0 : gg_C p s m args meth c RX0 cX0_asks 3 (some .int) := C0
  obtain ⟨hx, hb, hml, hown, hts, hr, hlocks⟩ := id C0
  have hl : lv_has ls 3 [(0, .ref (ad 0)), (1, .int a1), (2, .int a2)] := hl
  have hS : va_S A s.heap s.heap [] := va_S.rf
  have hA : xx_A sk A s := hV.2
  have hW : xx_W D E A ad sk σ s s.heap := hV.1
  unfold xxw_asks at hw
  refine lv_aload_n hx hb dX0_asks_0 rfl (lv_at hl 0 rfl) ?_
  refine lv_iload_n hx hb dX0_asks_1 rfl (lv_at hl 1 rfl) ?_
  refine xx_VI ⟨hx, hb, hml, hown, hts⟩ hA (xxt_isOne l _ _ hw) (cwV 1 hts (lw_V q245 q247 qs2 q103 q248) rfl rfl rfl cd_X0_isOne ⟨Nat.le_of_ble_eq_true rfl, Nat.le_of_ble_eq_true rfl⟩) hW (xx_recv hW) hS rfl hl.1 rfl (Nat.le_of_ble_eq_true rfl) dX0_asks_2 (fun r2 σ1 H locs hw hW hS => ?_)
  obtain ⟨hz_r2, hw⟩ := hw
  refine lv_if_eq (tgt := 32) hx hb dX0_asks_5 (by decide) (fun c8 => ?_) (fun c8 => ?_)
  · have hw := hw.1 c8
    refine lv_bipush (v := (-100 : Int32)) hx hb dX0_asks_32 (by decide) ?_
    exact gg_iret (xx_mv D E A ad sk) C0 hW hS hw dX0_asks_34
  · have hw := hw.2 c8
    refine lv_iload_n hx hb dX0_asks_8 rfl (lv_at hl 2 rfl) ?_
    refine lv_i2l (v := (a2).toInt64) hx hb dX0_asks_9 rfl ?_
    refine lv_lconst (v := (1 : Int64)) hx hb dX0_asks_10 (by decide) ?_
    refine lv_ldc2 (own := RX0) (v := (24 : Int64)) hx hb hown (hts _ q224) dX0_asks_11 ?_
    refine xx_SI ⟨hx, hb, hml, hown, hts⟩ hA (xxt_in l _ _ _ _ hw) (va_cwS 3 hts (lw_S q139 q140 q103 q141) rfl rfl rfl cd_X0_in.2 ⟨Nat.le_of_ble_eq_true rfl, Nat.le_of_ble_eq_true rfl⟩) hW hS rfl hl.1 rfl (Nat.le_of_ble_eq_true rfl) dX0_asks_14 (fun r4 σ3 H locs hw hW hS => ?_)
    obtain ⟨hz_r4, hw⟩ := hw
    refine lv_if_eq (tgt := 32) hx hb dX0_asks_17 (by decide) (fun c7 => ?_) (fun c7 => ?_)
    · have hw := hw.1 c7
      refine lv_bipush (v := (-100 : Int32)) hx hb dX0_asks_32 (by decide) ?_
      exact gg_iret (xx_mv D E A ad sk) C0 hW hS hw dX0_asks_34
    · have hw := hw.2 c7
      refine lv_aload_n hx hb dX0_asks_20 rfl (lv_at hl 0 rfl) ?_
      refine lv_iload_n hx hb dX0_asks_21 rfl (lv_at hl 1 rfl) ?_
      refine lv_iload_n hx hb dX0_asks_22 rfl (lv_at hl 2 rfl) ?_
      refine lv_iconst (v := (0 : Int32)) hx hb dX0_asks_23 (by decide) ?_
      refine lv_bipush (v := (24 : Int32)) hx hb dX0_asks_24 (by decide) ?_
      refine xx_VI ⟨hx, hb, hml, hown, hts⟩ hA (xxt_takingOf l _ _ _ _ _ hw) (cwV 4 hts (lw_V q883 q885 qs33 q103 q886) rfl rfl rfl cd_X0_takingOf ⟨Nat.le_of_ble_eq_true rfl, Nat.le_of_ble_eq_true rfl⟩) hW (xx_recv hW) hS rfl hl.1 rfl (Nat.le_of_ble_eq_true rfl) dX0_asks_26 (fun r6 σ5 H locs hw hW hS => ?_)
      refine lv_goto (tgt := 34) hx hb dX0_asks_29 (by decide) ?_
      exact gg_iret (xx_mv D E A ad sk) C0 hW hS hw dX0_asks_34
theorem cd_X0_closes : yX0_closes.cls = RX0 ∧ yX0_closes.cls ≠ "java/lang/invoke/MethodHandle" ∧ yX0_closes.cls ≠ "java/lang/invoke/VarHandle" ∧ (parseMethodDescriptor yX0_closes.desc).map (fun d => d.parameters.length) = some 3 := by decide +kernel
/-! GleanersForGaps.closes(III)V -/
def xxw_closes_69  (Q : xx_S → Prop)  (x1 : Int32) (x3 : Int32) (s1 : Int32) (s2 : Int32) (σ : xx_S) : Prop :=
    vp_in s1 4 ∧ (∀ σ1 : xx_S, σ1 = xx_s σ 2 s1.toNatClampNeg s2 → vp_in x1 4 ∧ vp_in x1 4 ∧ (∀ σ2 : xx_S, σ2 = xx_s σ1 1 x1.toNatClampNeg ((xx_g σ1 1 x1.toNatClampNeg) - x3) → Q σ2))
def xxw_closes_39  (Q : xx_S → Prop)  (x1 : Int32) (x2 : Int32) (x3 : Int32) (x4 : Int32) (s0 : Int32) (σ : xx_S) : Prop :=
    (((x3 ≤ 0) → xxw_closes_69 Q x1 x3 x1 (x4 ||| (s0 <<< ((x2 - x3) &&& 31))) σ) ∧ (¬ (x3 ≤ 0) → xxw_closes_69 Q x1 x3 x1 (x4 ||| (s0 <<< (x2 &&& 31))) σ))
def xxw_closes  (a1 : Int32) (a2 : Int32) (a3 : Int32) (σ : xx_S) (Q : xx_S → Prop) : Prop :=
    vp_in a1 4 ∧ (((a3 ≤ 0) → vp_in a1 4 ∧ xxw_closes_39 Q a1 a2 a3 ((xx_g σ 2 a1.toNatClampNeg) &&& (((1 : Int32) <<< (a2 &&& 31)) - (1 : Int32))) ((xx_g σ 2 a1.toNatClampNeg) >>> (a2 &&& 31)) σ) ∧ (¬ (a3 ≤ 0) → vp_in a1 4 ∧ xxw_closes_39 Q a1 a2 a3 ((xx_g σ 2 a1.toNatClampNeg) &&& (((1 : Int32) <<< (a2 &&& 31)) - (1 : Int32))) ((xx_g σ 2 a1.toNatClampNeg) >>> ((a2 + a3) &&& 31)) σ))
abbrev xxr_closes : Room := { frames := 0, cells := 0, slots := 0, locals := 0 }
set_option maxHeartbeats 4000000 in
set_option maxRecDepth 100000 in
theorem xxk_closes_69 {p : Program} {l : Launch} {e : Env} {s : State} {m : MethodId} {args : Array Value} {below : List Frame} {meth : Method} {c : Code} {D : va_G} {E : Nat → ClassId} {A : Nat → Prop} {ad sk : Nat → Nat} {Q : xx_S → Prop}   (C0 : gg_C p s m args meth c RX0 cX0_closes 6 none) (hA : xx_A sk A s) :
    ∀ (x1 : Int32) (x3 : Int32) (s1 : Int32) (s2 : Int32) (σ : xx_S) (H : Heap) (locs : List Loc) (ls : Array Slot), xxw_closes_69 Q x1 x3 s1 s2 σ → xx_W D E A ad sk σ s H → va_S A s.heap H locs → lv_has ls 6 [(0, .ref (ad 0)), (1, .int x1), (3, .int x3)] → W p l e xxr_closes s m args below meth c H locs 0 0 (MQ below (va_Qv Q (fun u t => xx_W D E A ad sk u t t.heap) A) args s 0 0 A) (F0 m 69 ls [.int s2, .int s1, .ref (ad 2)]) := by
  obtain ⟨hx, hb, hml, hown, hts, hr, hlocks⟩ := id C0
  intro x1 x3 s1 s2 σ H locs ls hw hW hS hl
  unfold xxw_closes_69 at hw
  obtain ⟨hin, hw⟩ := hw
  refine xx_ast hx hb hW hS 2 4 (by decide) rfl hin dX0_closes_69 (fun H locs hW hS => ?_)
  obtain ⟨σ1, eσ1⟩ : ∃ z, z = xx_s σ 2 s1.toNatClampNeg s2 := ⟨_, rfl⟩
  rw [← eσ1] at hW
  have hw := hw σ1 eσ1
  refine lv_aload_n hx hb dX0_closes_70 rfl (lv_at hl 0 rfl) ?_
  refine xx_getr hx hb hts hown hW 3 1 (by decide) q748 dX0_closes_71 ?_
  refine lv_iload_n hx hb dX0_closes_74 rfl (lv_at hl 1 rfl) ?_
  refine lv_dup2_11 hx hb dX0_closes_75 rfl rfl ?_
  obtain ⟨hin, hw⟩ := hw
  refine xx_ald hx hb hW 1 4 (by decide) rfl hin dX0_closes_76 ?_
  refine lv_iload_n hx hb dX0_closes_77 rfl (lv_at hl 2 rfl) ?_
  refine lv_isub hx hb dX0_closes_78 ?_
  obtain ⟨hin, hw⟩ := hw
  refine xx_ast hx hb hW hS 1 4 (by decide) rfl hin dX0_closes_79 (fun H locs hW hS => ?_)
  obtain ⟨σ2, eσ2⟩ : ∃ z, z = xx_s σ1 1 x1.toNatClampNeg ((xx_g σ1 1 x1.toNatClampNeg) - x3) := ⟨_, rfl⟩
  rw [← eσ2] at hW
  have hw := hw σ2 eσ2
  exact gg_vret (xx_mv D E A ad sk) C0 hW hS hw dX0_closes_80
set_option maxHeartbeats 4000000 in
set_option maxRecDepth 100000 in
theorem xxk_closes_39 {p : Program} {l : Launch} {e : Env} {s : State} {m : MethodId} {args : Array Value} {below : List Frame} {meth : Method} {c : Code} {D : va_G} {E : Nat → ClassId} {A : Nat → Prop} {ad sk : Nat → Nat} {Q : xx_S → Prop}   (C0 : gg_C p s m args meth c RX0 cX0_closes 6 none) (hA : xx_A sk A s) :
    ∀ (x1 : Int32) (x2 : Int32) (x3 : Int32) (x4 : Int32) (s0 : Int32) (σ : xx_S) (H : Heap) (locs : List Loc) (ls : Array Slot), xxw_closes_39 Q x1 x2 x3 x4 s0 σ → xx_W D E A ad sk σ s H → va_S A s.heap H locs → lv_has ls 6 [(0, .ref (ad 0)), (1, .int x1), (2, .int x2), (3, .int x3), (4, .int x4)] → W p l e xxr_closes s m args below meth c H locs 0 0 (MQ below (va_Qv Q (fun u t => xx_W D E A ad sk u t t.heap) A) args s 0 0 A) (F0 m 39 ls [.int s0]) := by
  obtain ⟨hx, hb, hml, hown, hts, hr, hlocks⟩ := id C0
  intro x1 x2 x3 x4 s0 σ H locs ls hw hW hS hl
  unfold xxw_closes_39 at hw
  refine lv_istore (lv' := [(5, .int s0), (0, .ref (ad 0)), (1, .int x1), (2, .int x2), (3, .int x3), (4, .int x4)]) hx hb dX0_closes_39 hl (by decide) rfl (fun ls hl => ?_)
  refine lv_aload_n hx hb dX0_closes_41 rfl (lv_at hl 1 rfl) ?_
  refine xx_getr hx hb hts hown hW 4 2 (by decide) q749 dX0_closes_42 ?_
  refine lv_iload_n hx hb dX0_closes_45 rfl (lv_at hl 2 rfl) ?_
  refine lv_iload_n hx hb dX0_closes_46 rfl (lv_at hl 4 rfl) ?_
  refine lv_if_le (tgt := 60) hx hb dX0_closes_47 (by decide) (fun c3 => ?_) (fun c3 => ?_)
  · have hw := hw.1 c3
    refine lv_iload hx hb dX0_closes_60 (lv_at hl 5 rfl) ?_
    refine lv_iload hx hb dX0_closes_62 (lv_at hl 0 rfl) ?_
    refine lv_iload_n hx hb dX0_closes_64 rfl (lv_at hl 3 rfl) ?_
    refine lv_iload_n hx hb dX0_closes_65 rfl (lv_at hl 4 rfl) ?_
    refine lv_isub hx hb dX0_closes_66 ?_
    refine lv_ishl hx hb dX0_closes_67 ?_
    refine lv_ior hx hb dX0_closes_68 ?_
    exact xxk_closes_69  C0 hA  x1 x3 x1 (x4 ||| (s0 <<< ((x2 - x3) &&& 31))) σ _ _ _ hw hW hS (lv_sub hl [1, 2, 4] rfl)
  · have hw := hw.2 c3
    refine lv_iload hx hb dX0_closes_50 (lv_at hl 5 rfl) ?_
    refine lv_iload hx hb dX0_closes_52 (lv_at hl 0 rfl) ?_
    refine lv_iload_n hx hb dX0_closes_54 rfl (lv_at hl 3 rfl) ?_
    refine lv_ishl hx hb dX0_closes_55 ?_
    refine lv_ior hx hb dX0_closes_56 ?_
    refine lv_goto (tgt := 69) hx hb dX0_closes_57 (by decide) ?_
    exact xxk_closes_69  C0 hA  x1 x3 x1 (x4 ||| (s0 <<< (x2 &&& 31))) σ _ _ _ hw hW hS (lv_sub hl [1, 2, 4] rfl)
set_option maxHeartbeats 4000000 in
set_option maxRecDepth 100000 in
theorem xxt_closes (l : Launch) {D : va_G} {E : Nat → ClassId} {A : Nat → Prop} {ad sk : Nat → Nat}  (a1 : Int32) (a2 : Int32) (a3 : Int32) (σ : xx_S) {Q : xx_S → Prop} (hw : xxw_closes a1 a2 a3 σ Q) :
    Met l yX0_closes (ws_ yX0_closes cX0_closes 6 none) xxr_closes (va_Pc [.ref (ad 0), .int a1, .int a2, .int a3] (fun U => xx_V D E A ad sk σ U U.heap)) (va_Qv Q (fun u t => xx_W D E A ad sk u t t.heap) A) 0 0 A := by
  refine gg_entry (W0 := fun s H => xx_V D E A ad sk σ s H) (by decide) (Nat.le_of_ble_eq_true rfl) ?_
  intro p e s m args below meth c C0 hV ls hl
  have C0 : gg_C p s m args meth c RX0 cX0_closes 6 none := C0
  obtain ⟨hx, hb, hml, hown, hts, hr, hlocks⟩ := id C0
  have hl : lv_has ls 6 [(0, .ref (ad 0)), (1, .int a1), (2, .int a2), (3, .int a3)] := hl
  have hS : va_S A s.heap s.heap [] := va_S.rf
  have hA : xx_A sk A s := hV.2
  have hW : xx_W D E A ad sk σ s s.heap := hV.1
  unfold xxw_closes at hw
  refine lv_aload_n hx hb dX0_closes_0 rfl (lv_at hl 0 rfl) ?_
  refine xx_getr hx hb hts hown hW 4 2 (by decide) q749 dX0_closes_1 ?_
  refine lv_iload_n hx hb dX0_closes_4 rfl (lv_at hl 1 rfl) ?_
  obtain ⟨hin, hw⟩ := hw
  refine xx_ald hx hb hW 2 4 (by decide) rfl hin dX0_closes_5 ?_
  refine lv_iconst (v := (1 : Int32)) hx hb dX0_closes_6 (by decide) ?_
  refine lv_iload_n hx hb dX0_closes_7 rfl (lv_at hl 2 rfl) ?_
  refine lv_ishl hx hb dX0_closes_8 ?_
  refine lv_iconst (v := (1 : Int32)) hx hb dX0_closes_9 (by decide) ?_
  refine lv_isub hx hb dX0_closes_10 ?_
  refine lv_iand hx hb dX0_closes_11 ?_
  refine lv_istore (lv' := [(4, .int ((xx_g σ 2 a1.toNatClampNeg) &&& (((1 : Int32) <<< (a2 &&& 31)) - (1 : Int32)))), (0, .ref (ad 0)), (1, .int a1), (2, .int a2), (3, .int a3)]) hx hb dX0_closes_12 hl (by decide) rfl (fun ls hl => ?_)
  refine lv_iload_n hx hb dX0_closes_14 rfl (lv_at hl 4 rfl) ?_
  refine lv_if_le (tgt := 31) hx hb dX0_closes_15 (by decide) (fun c4 => ?_) (fun c4 => ?_)
  · have hw := hw.1 c4
    refine lv_aload_n hx hb dX0_closes_31 rfl (lv_at hl 1 rfl) ?_
    refine xx_getr hx hb hts hown hW 4 2 (by decide) q749 dX0_closes_32 ?_
    refine lv_iload_n hx hb dX0_closes_35 rfl (lv_at hl 2 rfl) ?_
    obtain ⟨hin, hw⟩ := hw
    refine xx_ald hx hb hW 2 4 (by decide) rfl hin dX0_closes_36 ?_
    refine lv_iload_n hx hb dX0_closes_37 rfl (lv_at hl 3 rfl) ?_
    refine lv_ishr hx hb dX0_closes_38 ?_
    exact xxk_closes_39  C0 hA  a1 a2 a3 ((xx_g σ 2 a1.toNatClampNeg) &&& (((1 : Int32) <<< (a2 &&& 31)) - (1 : Int32))) ((xx_g σ 2 a1.toNatClampNeg) >>> (a2 &&& 31)) σ _ _ _ hw hW hS (lv_sub hl [1, 2, 3, 4, 0] rfl)
  · have hw := hw.2 c4
    refine lv_aload_n hx hb dX0_closes_18 rfl (lv_at hl 1 rfl) ?_
    refine xx_getr hx hb hts hown hW 4 2 (by decide) q749 dX0_closes_19 ?_
    refine lv_iload_n hx hb dX0_closes_22 rfl (lv_at hl 2 rfl) ?_
    obtain ⟨hin, hw⟩ := hw
    refine xx_ald hx hb hW 2 4 (by decide) rfl hin dX0_closes_23 ?_
    refine lv_iload_n hx hb dX0_closes_24 rfl (lv_at hl 3 rfl) ?_
    refine lv_iload_n hx hb dX0_closes_25 rfl (lv_at hl 4 rfl) ?_
    refine lv_iadd hx hb dX0_closes_26 ?_
    refine lv_ishr hx hb dX0_closes_27 ?_
    refine lv_goto (tgt := 39) hx hb dX0_closes_28 (by decide) ?_
    exact xxk_closes_39  C0 hA  a1 a2 a3 ((xx_g σ 2 a1.toNatClampNeg) &&& (((1 : Int32) <<< (a2 &&& 31)) - (1 : Int32))) ((xx_g σ 2 a1.toNatClampNeg) >>> ((a2 + a3) &&& 31)) σ _ _ _ hw hW hS (lv_sub hl [1, 2, 3, 4, 0] rfl)
theorem cd_X0_takesRun : yX0_takesRun.cls = RX0 ∧ yX0_takesRun.cls ≠ "java/lang/invoke/MethodHandle" ∧ yX0_takesRun.cls ≠ "java/lang/invoke/VarHandle" ∧ (parseMethodDescriptor yX0_takesRun.desc).map (fun d => d.parameters.length) = some 5 := by decide +kernel
/-! GleanersForGaps.takesRun(IIIII)I -/
def xxw_takesRun_43  (Q : Int32 → xx_S → Prop)  (x1 : Int32) (x2 : Int32) (x3 : Int32) (s0 : Int32) (σ : xx_S) : Prop :=
    (xxw_closes x2 x3 s0 σ (fun σ3 => vp_in x1 5 ∧ ∃ y4 : Nat, xx_r σ3 43 x1.toNatClampNeg = some y4 ∧ vp_in x1 5 ∧ ∃ y5 : Nat, xx_r σ3 43 x1.toNatClampNeg = some y5 ∧ ∃ (k6 : Nat) (nk6 ak6 : Int32), xx_gl σ3 y5 k6 nk6 ak6 ∧ (xxw_held (ak6 + s0) (0 : Int32) (999 : Int32) σ3 (fun r8 σ7 => ∃ (k9 : Nat) (nk9 ak9 : Int32), xx_gl σ7 y4 k9 nk9 ak9 ∧ (∀ σ10 : xx_S, σ10 = xx_ps σ7 y4 (.inr (k9, [.int nk9, .int r8])) → Q s0 σ10)))))
def xxw_takesRun  (a1 : Int32) (a2 : Int32) (a3 : Int32) (a4 : Int32) (a5 : Int32) (σ : xx_S) (Q : Int32 → xx_S → Prop) : Prop :=
    vp_in a2 4 ∧ (xxw_takingOf a1 a4 a5 (xx_g σ 1 a2.toNatClampNeg) σ (fun r2 σ1 => (((0 ≤ r2) → xxw_takesRun_43 Q a1 a2 a3 r2 σ1) ∧ (¬ (0 ≤ r2) → vp_in a2 4 ∧ xxw_takesRun_43 Q a1 a2 a3 (-(if ((24 : Int32) - (xx_g σ1 1 a2.toNatClampNeg)) < (-r2) then ((24 : Int32) - (xx_g σ1 1 a2.toNatClampNeg)) else (-r2))) σ1))))
abbrev xxr_takesRun : Room := { frames := 204, cells := 0, slots := 0, locals := 6048 }
set_option maxHeartbeats 4000000 in
set_option maxRecDepth 100000 in
theorem xxk_takesRun_43 {p : Program} {l : Launch} {e : Env} {s : State} {m : MethodId} {args : Array Value} {below : List Frame} {meth : Method} {c : Code} {D : va_G} {E : Nat → ClassId} {A : Nat → Prop} {ad sk : Nat → Nat} {Q : Int32 → xx_S → Prop}   (C0 : gg_C p s m args meth c RX0 cX0_takesRun 8 (some .int)) (hA : xx_A sk A s) :
    ∀ (x1 : Int32) (x2 : Int32) (x3 : Int32) (s0 : Int32) (σ : xx_S) (H : Heap) (locs : List Loc) (ls : Array Slot), xxw_takesRun_43 Q x1 x2 x3 s0 σ → xx_W D E A ad sk σ s H → va_S A s.heap H locs → lv_has ls 8 [(0, .ref (ad 0)), (1, .int x1), (2, .int x2), (3, .int x3)] → W p l e xxr_takesRun s m args below meth c H locs 0 0 (MQ below (va_Qi Q (fun u t => xx_W D E A ad sk u t t.heap) A) args s 0 0 A) (F0 m 43 ls [.int s0]) := by
  obtain ⟨hx, hb, hml, hown, hts, hr, hlocks⟩ := id C0
  intro x1 x2 x3 s0 σ H locs ls hw hW hS hl
  unfold xxw_takesRun_43 at hw
  refine lv_istore (lv' := [(7, .int s0), (0, .ref (ad 0)), (1, .int x1), (2, .int x2), (3, .int x3)]) hx hb dX0_takesRun_43 hl (by decide) rfl (fun ls hl => ?_)
  refine lv_aload_n hx hb dX0_takesRun_45 rfl (lv_at hl 1 rfl) ?_
  refine lv_iload_n hx hb dX0_takesRun_46 rfl (lv_at hl 3 rfl) ?_
  refine lv_iload_n hx hb dX0_takesRun_47 rfl (lv_at hl 4 rfl) ?_
  refine lv_iload hx hb dX0_takesRun_48 (lv_at hl 0 rfl) ?_
  refine xx_VV ⟨hx, hb, hml, hown, hts⟩ hA (xxt_closes l _ _ _ _ hw) (cwV 3 hts (lw_V q934 q936 qs36 q103 q937) rfl rfl rfl cd_X0_closes ⟨Nat.le_of_ble_eq_true rfl, Nat.le_of_ble_eq_true rfl⟩) hW (xx_recv hW) hS rfl hl.1 rfl (Nat.le_of_ble_eq_true rfl) dX0_takesRun_50 (fun σ3 H locs hw hW hS => ?_)
  refine lv_aload_n hx hb dX0_takesRun_53 rfl (lv_at hl 1 rfl) ?_
  refine xx_getr hx hb hts hown hW 0 43 (by decide) q744 dX0_takesRun_54 ?_
  refine lv_iload_n hx hb dX0_takesRun_57 rfl (lv_at hl 2 rfl) ?_
  obtain ⟨hin, y4, hy, hw⟩ := hw
  refine xx_aldF hx hb hW hin hy dX0_takesRun_58 ?_
  refine lv_aload_n hx hb dX0_takesRun_59 rfl (lv_at hl 1 rfl) ?_
  refine xx_getr hx hb hts hown hW 0 43 (by decide) q744 dX0_takesRun_60 ?_
  refine lv_iload_n hx hb dX0_takesRun_63 rfl (lv_at hl 2 rfl) ?_
  obtain ⟨hin, y5, hy, hw⟩ := hw
  refine xx_aldF hx hb hW hin hy dX0_takesRun_64 ?_
  obtain ⟨k6, nk6, ak6, hgl, hw⟩ := hw
  refine xx_gla hx hb hts hown hW hgl q168 (fun _ h9 => h9) dX0_takesRun_65 ?_
  refine lv_iload hx hb dX0_takesRun_68 (lv_at hl 0 rfl) ?_
  refine lv_iadd hx hb dX0_takesRun_70 ?_
  refine lv_iconst (v := (0 : Int32)) hx hb dX0_takesRun_71 (by decide) ?_
  refine lv_sipush (v := (999 : Int32)) hx hb dX0_takesRun_72 (by decide) ?_
  refine xx_SI ⟨hx, hb, hml, hown, hts⟩ hA (xxt_held l _ _ _ _ hw) (va_cwS 3 hts (lw_S q305 q306 q103 q307) rfl rfl rfl cd_X0_held.2 ⟨Nat.le_of_ble_eq_true rfl, Nat.le_of_ble_eq_true rfl⟩) hW hS rfl hl.1 rfl (Nat.le_of_ble_eq_true rfl) dX0_takesRun_75 (fun r8 σ7 H locs hw hW hS => ?_)
  obtain ⟨k9, nk9, ak9, hgl, hw⟩ := hw
  refine xx_pgla hx hb hts hown hW hS hgl q168 (fun _ h9 => h9) dX0_takesRun_78 (fun H locs hW hS => ?_)
  obtain ⟨σ10, eσ10⟩ : ∃ z, z = xx_ps σ7 y4 (.inr (k9, [.int nk9, .int r8])) := ⟨_, rfl⟩
  rw [← eσ10] at hW
  have hw := hw σ10 eσ10
  refine lv_iload hx hb dX0_takesRun_81 (lv_at hl 0 rfl) ?_
  exact gg_iret (xx_mv D E A ad sk) C0 hW hS hw dX0_takesRun_83
set_option maxHeartbeats 4000000 in
set_option maxRecDepth 100000 in
theorem xxt_takesRun (l : Launch) {D : va_G} {E : Nat → ClassId} {A : Nat → Prop} {ad sk : Nat → Nat}  (a1 : Int32) (a2 : Int32) (a3 : Int32) (a4 : Int32) (a5 : Int32) (σ : xx_S) {Q : Int32 → xx_S → Prop} (hw : xxw_takesRun a1 a2 a3 a4 a5 σ Q) :
    Met l yX0_takesRun (ws_ yX0_takesRun cX0_takesRun 8 (some .int)) xxr_takesRun (va_Pc [.ref (ad 0), .int a1, .int a2, .int a3, .int a4, .int a5] (fun U => xx_V D E A ad sk σ U U.heap)) (va_Qi Q (fun u t => xx_W D E A ad sk u t t.heap) A) 0 0 A := by
  refine gg_entry (W0 := fun s H => xx_V D E A ad sk σ s H) (by decide) (Nat.le_of_ble_eq_true rfl) ?_
  intro p e s m args below meth c C0 hV ls hl
  have C0 : gg_C p s m args meth c RX0 cX0_takesRun 8 (some .int) := C0
  obtain ⟨hx, hb, hml, hown, hts, hr, hlocks⟩ := id C0
  have hl : lv_has ls 8 [(0, .ref (ad 0)), (1, .int a1), (2, .int a2), (3, .int a3), (4, .int a4), (5, .int a5)] := hl
  have hS : va_S A s.heap s.heap [] := va_S.rf
  have hA : xx_A sk A s := hV.2
  have hW : xx_W D E A ad sk σ s s.heap := hV.1
  unfold xxw_takesRun at hw
  refine lv_aload_n hx hb dX0_takesRun_0 rfl (lv_at hl 0 rfl) ?_
  refine lv_iload_n hx hb dX0_takesRun_1 rfl (lv_at hl 1 rfl) ?_
  refine lv_iload hx hb dX0_takesRun_2 (lv_at hl 4 rfl) ?_
  refine lv_iload hx hb dX0_takesRun_4 (lv_at hl 5 rfl) ?_
  refine lv_aload_n hx hb dX0_takesRun_6 rfl (lv_at hl 0 rfl) ?_
  refine xx_getr hx hb hts hown hW 3 1 (by decide) q748 dX0_takesRun_7 ?_
  refine lv_iload_n hx hb dX0_takesRun_10 rfl (lv_at hl 2 rfl) ?_
  obtain ⟨hin, hw⟩ := hw
  refine xx_ald hx hb hW 1 4 (by decide) rfl hin dX0_takesRun_11 ?_
  refine xx_VI ⟨hx, hb, hml, hown, hts⟩ hA (xxt_takingOf l _ _ _ _ _ hw) (cwV 4 hts (lw_V q883 q885 qs33 q103 q886) rfl rfl rfl cd_X0_takingOf ⟨Nat.le_of_ble_eq_true rfl, Nat.le_of_ble_eq_true rfl⟩) hW (xx_recv hW) hS rfl hl.1 rfl (Nat.le_of_ble_eq_true rfl) dX0_takesRun_12 (fun r2 σ1 H locs hw hW hS => ?_)
  refine lv_istore (lv' := [(6, .int r2), (0, .ref (ad 0)), (1, .int a1), (2, .int a2), (3, .int a3), (4, .int a4), (5, .int a5)]) hx hb dX0_takesRun_15 hl (by decide) rfl (fun ls hl => ?_)
  refine lv_iload hx hb dX0_takesRun_17 (lv_at hl 0 rfl) ?_
  refine lv_if_ge (tgt := 41) hx hb dX0_takesRun_19 (by decide) (fun c11 => ?_) (fun c11 => ?_)
  · have hw := hw.1 c11
    refine lv_iload hx hb dX0_takesRun_41 (lv_at hl 0 rfl) ?_
    exact xxk_takesRun_43  C0 hA  a1 a2 a3 r2 σ1 _ _ _ hw hW hS (lv_sub hl [1, 2, 3, 4] rfl)
  · have hw := hw.2 c11
    refine lv_iload hx hb dX0_takesRun_22 (lv_at hl 0 rfl) ?_
    refine lv_ineg hx hb dX0_takesRun_24 ?_
    refine lv_bipush (v := (24 : Int32)) hx hb dX0_takesRun_25 (by decide) ?_
    refine lv_aload_n hx hb dX0_takesRun_27 rfl (lv_at hl 1 rfl) ?_
    refine xx_getr hx hb hts hown hW 3 1 (by decide) q748 dX0_takesRun_28 ?_
    refine lv_iload_n hx hb dX0_takesRun_31 rfl (lv_at hl 3 rfl) ?_
    obtain ⟨hin, hw⟩ := hw
    refine xx_ald hx hb hW 1 4 (by decide) rfl hin dX0_takesRun_32 ?_
    refine lv_isub hx hb dX0_takesRun_33 ?_
    refine va_mmin hx hb (hml.trans hl.1.symm) hown (hts _ q308) (hts _ q309) (hts _ q113) (hts _ q310) (Nat.le_of_ble_eq_true rfl) (Nat.le_of_ble_eq_true rfl) (Nat.zero_le _) (Nat.zero_le _) dX0_takesRun_34 ?_
    refine lv_ineg hx hb dX0_takesRun_37 ?_
    refine lv_goto (tgt := 43) hx hb dX0_takesRun_38 (by decide) ?_
    exact xxk_takesRun_43  C0 hA  a1 a2 a3 (-(if ((24 : Int32) - (xx_g σ1 1 a2.toNatClampNeg)) < (-r2) then ((24 : Int32) - (xx_g σ1 1 a2.toNatClampNeg)) else (-r2))) σ1 _ _ _ hw hW hS (lv_sub hl [1, 2, 3, 4] rfl)
theorem cd_X0_gleans : yX0_gleans.cls = RX0 ∧ yX0_gleans.cls ≠ "java/lang/invoke/MethodHandle" ∧ yX0_gleans.cls ≠ "java/lang/invoke/VarHandle" ∧ (parseMethodDescriptor yX0_gleans.desc).map (fun d => d.parameters.length) = some 2 := by decide +kernel
/-! GleanersForGaps.gleans(II)I -/
def xxw_gleans_59  (Q : Int32 → xx_S → Prop) (K8 : Int32 → Int32 → Int32 → Int32 → Int32 → xx_S → Prop) (x1 : Int32) (x2 : Int32) (x3 : Int32) (x4 : Int32) (x5 : Int32) (x6 : Int32) (σ : xx_S) : Prop :=
    (((x6 ≤ 0) → K8 x1 x2 x3 (x4 + (1 : Int32)) x5 σ) ∧ (¬ (x6 ≤ 0) → (xxw_takesRun x1 x2 x4 x6 x5 σ (fun r3 σ2 => vp_in x5 24 ∧ (∀ σ4 : xx_S, σ4 = xx_s σ2 4 x5.toNatClampNeg r3 → K8 x1 x2 (x3 + r3) ((x4 + (x6 - r3)) + (1 : Int32)) (x5 + (1 : Int32)) σ4)))))
def xxw_gleans_22  (Q : Int32 → xx_S → Prop) (K8 : Int32 → Int32 → Int32 → Int32 → Int32 → xx_S → Prop) : Nat → Int32 → Int32 → Int32 → Int32 → Int32 → Int32 → xx_S → Prop
  | 0, _, _, _, _, _, _, _ => False
  | n + 1, x1, x2, x3, x4, x5, x6, σ =>
    vp_in x2 4 ∧ ((((xx_g σ 1 x2.toNatClampNeg) ≤ (x4 + x6)) → xxw_gleans_59 Q K8 x1 x2 x3 x4 x5 x6 σ) ∧ (¬ ((xx_g σ 1 x2.toNatClampNeg) ≤ (x4 + x6)) → vp_in x2 4 ∧ (xxw_isIn (xx_g σ 2 x2.toNatClampNeg) (x4 + x6) σ (fun r7 σ6 => (((r7 = 0) → xxw_gleans_22 Q K8 n x1 x2 x3 x4 x5 (x6 + (1 : Int32)) σ6) ∧ (¬ (r7 = 0) → xxw_gleans_59 Q K8 x1 x2 x3 x4 x5 x6 σ6))))))
def xxw_gleans_8  (Q : Int32 → xx_S → Prop)  : Nat → Int32 → Int32 → Int32 → Int32 → Int32 → xx_S → Prop
  | 0, _, _, _, _, _, _ => False
  | n + 1, x1, x2, x3, x4, x5, σ =>
    vp_in x2 4 ∧ ((((xx_g σ 1 x2.toNatClampNeg) ≤ x4) → (∀ σ1 : xx_S, σ1 = xx_s σ 0 26 x5 → Q x3 σ1)) ∧ (¬ ((xx_g σ 1 x2.toNatClampNeg) ≤ x4) → ∃ k9, xxw_gleans_22 Q (fun y0 y1 y2 y3 y4 τ => xxw_gleans_8 Q n y0 y1 y2 y3 y4 τ) k9 x1 x2 x3 x4 x5 (0 : Int32) σ))
def xxw_gleans  (a1 : Int32) (a2 : Int32) (σ : xx_S) (Q : Int32 → xx_S → Prop) : Prop :=
    ∃ k9, xxw_gleans_8 Q k9 a1 a2 (0 : Int32) (0 : Int32) (0 : Int32) σ
abbrev xxr_gleans : Room := { frames := 205, cells := 0, slots := 0, locals := 6075 }
set_option maxHeartbeats 4000000 in
set_option maxRecDepth 100000 in
theorem xxk_gleans_59 {p : Program} {l : Launch} {e : Env} {s : State} {m : MethodId} {args : Array Value} {below : List Frame} {meth : Method} {c : Code} {D : va_G} {E : Nat → ClassId} {A : Nat → Prop} {ad sk : Nat → Nat} {Q : Int32 → xx_S → Prop} {K8 : Int32 → Int32 → Int32 → Int32 → Int32 → xx_S → Prop}  (C0 : gg_C p s m args meth c RX0 cX0_gleans 8 (some .int)) (hA : xx_A sk A s) (hK8 : ∀ (x1 : Int32) (x2 : Int32) (x3 : Int32) (x4 : Int32) (x5 : Int32) (σ : xx_S) (H : Heap) (locs : List Loc) (ls : Array Slot), K8 x1 x2 x3 x4 x5 σ → xx_W D E A ad sk σ s H → va_S A s.heap H locs → lv_has ls 8 [(0, .ref (ad 0)), (1, .int x1), (2, .int x2), (3, .int x3), (4, .int x4), (5, .int x5)] → W p l e xxr_gleans s m args below meth c H locs 0 0 (MQ below (va_Qi Q (fun u t => xx_W D E A ad sk u t t.heap) A) args s 0 0 A) (F0 m 8 ls [])) :
    ∀ (x1 : Int32) (x2 : Int32) (x3 : Int32) (x4 : Int32) (x5 : Int32) (x6 : Int32) (σ : xx_S) (H : Heap) (locs : List Loc) (ls : Array Slot), xxw_gleans_59 Q K8 x1 x2 x3 x4 x5 x6 σ → xx_W D E A ad sk σ s H → va_S A s.heap H locs → lv_has ls 8 [(0, .ref (ad 0)), (1, .int x1), (2, .int x2), (3, .int x3), (4, .int x4), (5, .int x5), (6, .int x6)] → W p l e xxr_gleans s m args below meth c H locs 0 0 (MQ below (va_Qi Q (fun u t => xx_W D E A ad sk u t t.heap) A) args s 0 0 A) (F0 m 59 ls []) := by
  obtain ⟨hx, hb, hml, hown, hts, hr, hlocks⟩ := id C0
  intro x1 x2 x3 x4 x5 x6 σ H locs ls hw hW hS hl
  unfold xxw_gleans_59 at hw
  refine lv_iload hx hb dX0_gleans_59 (lv_at hl 6 rfl) ?_
  refine lv_if_le (tgt := 105) hx hb dX0_gleans_61 (by decide) (fun c5 => ?_) (fun c5 => ?_)
  · have hw := hw.1 c5
    refine lv_iinc (v := (x4 + (1 : Int32))) (lv' := [(4, .int (x4 + (1 : Int32))), (0, .ref (ad 0)), (1, .int x1), (2, .int x2), (3, .int x3), (5, .int x5), (6, .int x6)]) hx hb dX0_gleans_105 hl (k := 4) rfl rfl (by decide) rfl (fun ls hl => ?_)
    refine lv_goto (tgt := 8) hx hb dX0_gleans_108 (by decide) ?_
    exact hK8 x1 x2 x3 (x4 + (1 : Int32)) x5 σ _ _ _ hw hW hS (lv_sub hl [1, 2, 3, 4, 0, 5] rfl)
  · have hw := hw.2 c5
    refine lv_aload_n hx hb dX0_gleans_64 rfl (lv_at hl 0 rfl) ?_
    refine lv_iload_n hx hb dX0_gleans_65 rfl (lv_at hl 1 rfl) ?_
    refine lv_iload_n hx hb dX0_gleans_66 rfl (lv_at hl 2 rfl) ?_
    refine lv_iload hx hb dX0_gleans_67 (lv_at hl 4 rfl) ?_
    refine lv_iload hx hb dX0_gleans_69 (lv_at hl 6 rfl) ?_
    refine lv_iload hx hb dX0_gleans_71 (lv_at hl 5 rfl) ?_
    refine xx_VI ⟨hx, hb, hml, hown, hts⟩ hA (xxt_takesRun l _ _ _ _ _ _ hw) (cwV 5 hts (lw_V q930 q932 qs35 q103 q933) rfl rfl rfl cd_X0_takesRun ⟨Nat.le_of_ble_eq_true rfl, Nat.le_of_ble_eq_true rfl⟩) hW (xx_recv hW) hS rfl hl.1 rfl (Nat.le_of_ble_eq_true rfl) dX0_gleans_73 (fun r3 σ2 H locs hw hW hS => ?_)
    refine lv_istore (lv' := [(7, .int r3), (0, .ref (ad 0)), (1, .int x1), (2, .int x2), (3, .int x3), (4, .int x4), (5, .int x5), (6, .int x6)]) hx hb dX0_gleans_76 hl (by decide) rfl (fun ls hl => ?_)
    refine lv_aload_n hx hb dX0_gleans_78 rfl (lv_at hl 1 rfl) ?_
    refine xx_getr hx hb hts hown hW 25 4 (by decide) q775 dX0_gleans_79 ?_
    refine lv_iload hx hb dX0_gleans_82 (lv_at hl 6 rfl) ?_
    refine lv_iload hx hb dX0_gleans_84 (lv_at hl 0 rfl) ?_
    obtain ⟨hin, hw⟩ := hw
    refine xx_ast hx hb hW hS 4 24 (by decide) rfl hin dX0_gleans_86 (fun H locs hW hS => ?_)
    obtain ⟨σ4, eσ4⟩ : ∃ z, z = xx_s σ2 4 x5.toNatClampNeg r3 := ⟨_, rfl⟩
    rw [← eσ4] at hW
    have hw := hw σ4 eσ4
    refine lv_iload_n hx hb dX0_gleans_87 rfl (lv_at hl 4 rfl) ?_
    refine lv_iload hx hb dX0_gleans_88 (lv_at hl 0 rfl) ?_
    refine lv_iadd hx hb dX0_gleans_90 ?_
    refine lv_istore_n (lv' := [(3, .int (x3 + r3)), (7, .int r3), (0, .ref (ad 0)), (1, .int x1), (2, .int x2), (4, .int x4), (5, .int x5), (6, .int x6)]) hx hb dX0_gleans_91 rfl hl (by decide) rfl (fun ls hl => ?_)
    refine lv_iinc (v := (x5 + (1 : Int32))) (lv' := [(5, .int (x5 + (1 : Int32))), (3, .int (x3 + r3)), (7, .int r3), (0, .ref (ad 0)), (1, .int x1), (2, .int x2), (4, .int x4), (6, .int x6)]) hx hb dX0_gleans_92 hl (k := 6) rfl rfl (by decide) rfl (fun ls hl => ?_)
    refine lv_iload hx hb dX0_gleans_95 (lv_at hl 6 rfl) ?_
    refine lv_iload hx hb dX0_gleans_97 (lv_at hl 7 rfl) ?_
    refine lv_iload hx hb dX0_gleans_99 (lv_at hl 2 rfl) ?_
    refine lv_isub hx hb dX0_gleans_101 ?_
    refine lv_iadd hx hb dX0_gleans_102 ?_
    refine lv_istore (lv' := [(4, .int (x4 + (x6 - r3))), (5, .int (x5 + (1 : Int32))), (3, .int (x3 + r3)), (7, .int r3), (0, .ref (ad 0)), (1, .int x1), (2, .int x2), (6, .int x6)]) hx hb dX0_gleans_103 hl (by decide) rfl (fun ls hl => ?_)
    refine lv_iinc (v := ((x4 + (x6 - r3)) + (1 : Int32))) (lv' := [(4, .int ((x4 + (x6 - r3)) + (1 : Int32))), (5, .int (x5 + (1 : Int32))), (3, .int (x3 + r3)), (7, .int r3), (0, .ref (ad 0)), (1, .int x1), (2, .int x2), (6, .int x6)]) hx hb dX0_gleans_105 hl (k := 0) rfl rfl (by decide) rfl (fun ls hl => ?_)
    refine lv_goto (tgt := 8) hx hb dX0_gleans_108 (by decide) ?_
    exact hK8 x1 x2 (x3 + r3) ((x4 + (x6 - r3)) + (1 : Int32)) (x5 + (1 : Int32)) σ4 _ _ _ hw hW hS (lv_sub hl [4, 5, 6, 2, 0, 1] rfl)
set_option maxHeartbeats 4000000 in
set_option maxRecDepth 100000 in
theorem xxk_gleans_22 {p : Program} {l : Launch} {e : Env} {s : State} {m : MethodId} {args : Array Value} {below : List Frame} {meth : Method} {c : Code} {D : va_G} {E : Nat → ClassId} {A : Nat → Prop} {ad sk : Nat → Nat} {Q : Int32 → xx_S → Prop} {K8 : Int32 → Int32 → Int32 → Int32 → Int32 → xx_S → Prop}  (C0 : gg_C p s m args meth c RX0 cX0_gleans 8 (some .int)) (hA : xx_A sk A s) (hK8 : ∀ (x1 : Int32) (x2 : Int32) (x3 : Int32) (x4 : Int32) (x5 : Int32) (σ : xx_S) (H : Heap) (locs : List Loc) (ls : Array Slot), K8 x1 x2 x3 x4 x5 σ → xx_W D E A ad sk σ s H → va_S A s.heap H locs → lv_has ls 8 [(0, .ref (ad 0)), (1, .int x1), (2, .int x2), (3, .int x3), (4, .int x4), (5, .int x5)] → W p l e xxr_gleans s m args below meth c H locs 0 0 (MQ below (va_Qi Q (fun u t => xx_W D E A ad sk u t t.heap) A) args s 0 0 A) (F0 m 8 ls [])) :
    ∀ n : Nat, ∀ (x1 : Int32) (x2 : Int32) (x3 : Int32) (x4 : Int32) (x5 : Int32) (x6 : Int32) (σ : xx_S) (H : Heap) (locs : List Loc) (ls : Array Slot), xxw_gleans_22 Q K8 n x1 x2 x3 x4 x5 x6 σ → xx_W D E A ad sk σ s H → va_S A s.heap H locs → lv_has ls 8 [(0, .ref (ad 0)), (1, .int x1), (2, .int x2), (3, .int x3), (4, .int x4), (5, .int x5), (6, .int x6)] → W p l e xxr_gleans s m args below meth c H locs 0 0 (MQ below (va_Qi Q (fun u t => xx_W D E A ad sk u t t.heap) A) args s 0 0 A) (F0 m 22 ls []) := by
  obtain ⟨hx, hb, hml, hown, hts, hr, hlocks⟩ := id C0
  intro n
  induction n with
  | zero =>
    intro x1 x2 x3 x4 x5 x6 σ H locs ls hw hW hS hl
    exact absurd hw (by unfold xxw_gleans_22; exact id)
  | succ n ih =>
    intro x1 x2 x3 x4 x5 x6 σ H locs ls hw hW hS hl
    unfold xxw_gleans_22 at hw
    refine lv_iload hx hb dX0_gleans_22 (lv_at hl 4 rfl) ?_
    refine lv_iload hx hb dX0_gleans_24 (lv_at hl 6 rfl) ?_
    refine lv_iadd hx hb dX0_gleans_26 ?_
    refine lv_aload_n hx hb dX0_gleans_27 rfl (lv_at hl 0 rfl) ?_
    refine xx_getr hx hb hts hown hW 3 1 (by decide) q748 dX0_gleans_28 ?_
    refine lv_iload_n hx hb dX0_gleans_31 rfl (lv_at hl 2 rfl) ?_
    obtain ⟨hin, hw⟩ := hw
    refine xx_ald hx hb hW 1 4 (by decide) rfl hin dX0_gleans_32 ?_
    refine lv_icmp_ge (tgt := 59) hx hb dX0_gleans_33 (by decide) (fun c9 => ?_) (fun c9 => ?_)
    · have hw := hw.1 c9
      exact xxk_gleans_59  C0 hA hK8 x1 x2 x3 x4 x5 x6 σ _ _ _ hw hW hS (hl)
    · have hw := hw.2 c9
      refine lv_aload_n hx hb dX0_gleans_36 rfl (lv_at hl 0 rfl) ?_
      refine xx_getr hx hb hts hown hW 4 2 (by decide) q749 dX0_gleans_37 ?_
      refine lv_iload_n hx hb dX0_gleans_40 rfl (lv_at hl 2 rfl) ?_
      obtain ⟨hin, hw⟩ := hw
      refine xx_ald hx hb hW 2 4 (by decide) rfl hin dX0_gleans_41 ?_
      refine lv_iload hx hb dX0_gleans_42 (lv_at hl 4 rfl) ?_
      refine lv_iload hx hb dX0_gleans_44 (lv_at hl 6 rfl) ?_
      refine lv_iadd hx hb dX0_gleans_46 ?_
      refine xx_SI ⟨hx, hb, hml, hown, hts⟩ hA (xxt_isIn l _ _ _ hw) (va_cwS 2 hts (lw_S q266 q267 q103 q268) rfl rfl rfl cd_X0_isIn.2 ⟨Nat.le_of_ble_eq_true rfl, Nat.le_of_ble_eq_true rfl⟩) hW hS rfl hl.1 rfl (Nat.le_of_ble_eq_true rfl) dX0_gleans_47 (fun r7 σ6 H locs hw hW hS => ?_)
      obtain ⟨hz_r7, hw⟩ := hw
      refine lv_if_ne (tgt := 59) hx hb dX0_gleans_50 (by decide) (fun c8 => ?_) (fun c8 => ?_)
      · have hw := hw.2 c8
        exact xxk_gleans_59  C0 hA hK8 x1 x2 x3 x4 x5 x6 σ6 _ _ _ hw hW hS (hl)
      · have hw := hw.1 c8
        refine lv_iinc (v := (x6 + (1 : Int32))) (lv' := [(6, .int (x6 + (1 : Int32))), (0, .ref (ad 0)), (1, .int x1), (2, .int x2), (3, .int x3), (4, .int x4), (5, .int x5)]) hx hb dX0_gleans_53 hl (k := 6) rfl rfl (by decide) rfl (fun ls hl => ?_)
        refine lv_goto (tgt := 22) hx hb dX0_gleans_56 (by decide) ?_
        exact ih x1 x2 x3 x4 x5 (x6 + (1 : Int32)) σ6 _ _ _ hw hW hS (lv_sub hl [1, 2, 3, 4, 5, 6, 0] rfl)
set_option maxHeartbeats 4000000 in
set_option maxRecDepth 100000 in
theorem xxk_gleans_8 {p : Program} {l : Launch} {e : Env} {s : State} {m : MethodId} {args : Array Value} {below : List Frame} {meth : Method} {c : Code} {D : va_G} {E : Nat → ClassId} {A : Nat → Prop} {ad sk : Nat → Nat} {Q : Int32 → xx_S → Prop}   (C0 : gg_C p s m args meth c RX0 cX0_gleans 8 (some .int)) (hA : xx_A sk A s) :
    ∀ n : Nat, ∀ (x1 : Int32) (x2 : Int32) (x3 : Int32) (x4 : Int32) (x5 : Int32) (σ : xx_S) (H : Heap) (locs : List Loc) (ls : Array Slot), xxw_gleans_8 Q n x1 x2 x3 x4 x5 σ → xx_W D E A ad sk σ s H → va_S A s.heap H locs → lv_has ls 8 [(0, .ref (ad 0)), (1, .int x1), (2, .int x2), (3, .int x3), (4, .int x4), (5, .int x5)] → W p l e xxr_gleans s m args below meth c H locs 0 0 (MQ below (va_Qi Q (fun u t => xx_W D E A ad sk u t t.heap) A) args s 0 0 A) (F0 m 8 ls []) := by
  obtain ⟨hx, hb, hml, hown, hts, hr, hlocks⟩ := id C0
  intro n
  induction n with
  | zero =>
    intro x1 x2 x3 x4 x5 σ H locs ls hw hW hS hl
    exact absurd hw (by unfold xxw_gleans_8; exact id)
  | succ n ih =>
    intro x1 x2 x3 x4 x5 σ H locs ls hw hW hS hl
    unfold xxw_gleans_8 at hw
    refine lv_iload hx hb dX0_gleans_8 (lv_at hl 4 rfl) ?_
    refine lv_aload_n hx hb dX0_gleans_10 rfl (lv_at hl 0 rfl) ?_
    refine xx_getr hx hb hts hown hW 3 1 (by decide) q748 dX0_gleans_11 ?_
    refine lv_iload_n hx hb dX0_gleans_14 rfl (lv_at hl 2 rfl) ?_
    obtain ⟨hin, hw⟩ := hw
    refine xx_ald hx hb hW 1 4 (by decide) rfl hin dX0_gleans_15 ?_
    refine lv_icmp_ge (tgt := 111) hx hb dX0_gleans_16 (by decide) (fun c10 => ?_) (fun c10 => ?_)
    · have hw := hw.1 c10
      refine lv_aload_n hx hb dX0_gleans_111 rfl (lv_at hl 0 rfl) ?_
      refine lv_iload hx hb dX0_gleans_112 (lv_at hl 5 rfl) ?_
      refine xx_puti hx hb hts hown hW hS 26 (by decide) q776 rfl rfl rfl dX0_gleans_114 (fun H locs hW hS => ?_)
      obtain ⟨σ1, eσ1⟩ : ∃ z, z = xx_s σ 0 26 x5 := ⟨_, rfl⟩
      rw [← eσ1] at hW
      have hw := hw σ1 eσ1
      refine lv_iload_n hx hb dX0_gleans_117 rfl (lv_at hl 3 rfl) ?_
      exact gg_iret (xx_mv D E A ad sk) C0 hW hS hw dX0_gleans_118
    · have hw := hw.2 c10
      refine lv_iconst (v := (0 : Int32)) hx hb dX0_gleans_19 (by decide) ?_
      refine lv_istore (lv' := [(6, .int (0 : Int32)), (0, .ref (ad 0)), (1, .int x1), (2, .int x2), (3, .int x3), (4, .int x4), (5, .int x5)]) hx hb dX0_gleans_20 hl (by decide) rfl (fun ls hl => ?_)
      obtain ⟨n9, hw⟩ := hw
      exact xxk_gleans_22  C0 hA (fun y0 y1 y2 y3 y4 τ H9 l9 s9 => ih y0 y1 y2 y3 y4 τ H9 l9 s9) n9 x1 x2 x3 x4 x5 (0 : Int32) σ _ _ _ hw hW hS (lv_sub hl [1, 2, 3, 4, 5, 6, 0] rfl)
set_option maxHeartbeats 4000000 in
set_option maxRecDepth 100000 in
theorem xxt_gleans (l : Launch) {D : va_G} {E : Nat → ClassId} {A : Nat → Prop} {ad sk : Nat → Nat}  (a1 : Int32) (a2 : Int32) (σ : xx_S) {Q : Int32 → xx_S → Prop} (hw : xxw_gleans a1 a2 σ Q) :
    Met l yX0_gleans (ws_ yX0_gleans cX0_gleans 8 (some .int)) xxr_gleans (va_Pc [.ref (ad 0), .int a1, .int a2] (fun U => xx_V D E A ad sk σ U U.heap)) (va_Qi Q (fun u t => xx_W D E A ad sk u t t.heap) A) 0 0 A := by
  refine gg_entry (W0 := fun s H => xx_V D E A ad sk σ s H) (by decide) (Nat.le_of_ble_eq_true rfl) ?_
  intro p e s m args below meth c C0 hV ls hl
  have C0 : gg_C p s m args meth c RX0 cX0_gleans 8 (some .int) := C0
  obtain ⟨hx, hb, hml, hown, hts, hr, hlocks⟩ := id C0
  have hl : lv_has ls 8 [(0, .ref (ad 0)), (1, .int a1), (2, .int a2)] := hl
  have hS : va_S A s.heap s.heap [] := va_S.rf
  have hA : xx_A sk A s := hV.2
  have hW : xx_W D E A ad sk σ s s.heap := hV.1
  unfold xxw_gleans at hw
  refine lv_iconst (v := (0 : Int32)) hx hb dX0_gleans_0 (by decide) ?_
  refine lv_istore_n (lv' := [(3, .int (0 : Int32)), (0, .ref (ad 0)), (1, .int a1), (2, .int a2)]) hx hb dX0_gleans_1 rfl hl (by decide) rfl (fun ls hl => ?_)
  refine lv_iconst (v := (0 : Int32)) hx hb dX0_gleans_2 (by decide) ?_
  refine lv_istore (lv' := [(4, .int (0 : Int32)), (3, .int (0 : Int32)), (0, .ref (ad 0)), (1, .int a1), (2, .int a2)]) hx hb dX0_gleans_3 hl (by decide) rfl (fun ls hl => ?_)
  refine lv_iconst (v := (0 : Int32)) hx hb dX0_gleans_5 (by decide) ?_
  refine lv_istore (lv' := [(5, .int (0 : Int32)), (4, .int (0 : Int32)), (3, .int (0 : Int32)), (0, .ref (ad 0)), (1, .int a1), (2, .int a2)]) hx hb dX0_gleans_6 hl (by decide) rfl (fun ls hl => ?_)
  obtain ⟨n9, hw⟩ := hw
  exact xxk_gleans_8  C0 hA  n9 a1 a2 (0 : Int32) (0 : Int32) (0 : Int32) σ _ _ _ hw hW hS (lv_sub hl [3, 4, 5, 2, 1, 0] rfl)
theorem cd_X0_glean : yX0_glean.cls = RX0 ∧ yX0_glean.cls ≠ "java/lang/invoke/MethodHandle" ∧ yX0_glean.cls ≠ "java/lang/invoke/VarHandle" ∧ (parseMethodDescriptor yX0_glean.desc).map (fun d => d.parameters.length) = some 2 := by decide +kernel
/-! GleanersForGaps.glean(II)I -/
def xxw_glean  (a1 : Int32) (a2 : Int32) (σ : xx_S) (Q : Int32 → xx_S → Prop) : Prop :=
    (xxw_isOne a1 σ (fun r2 σ1 => (((r2 = 0) → Q (-100 : Int32) σ1) ∧ (¬ (r2 = 0) → (xxw_isRow a2 σ1 (fun r4 σ3 => (((r4 = 0) → Q (-100 : Int32) σ3) ∧ (¬ (r4 = 0) → (xxw_gleans a1 a2 σ3 (fun r6 σ5 => Q r6 σ5))))))))))
abbrev xxr_glean : Room := { frames := 206, cells := 0, slots := 0, locals := 6102 }
set_option maxHeartbeats 4000000 in
set_option maxRecDepth 100000 in
theorem xxt_glean (l : Launch) {D : va_G} {E : Nat → ClassId} {A : Nat → Prop} {ad sk : Nat → Nat}  (a1 : Int32) (a2 : Int32) (σ : xx_S) {Q : Int32 → xx_S → Prop} (hw : xxw_glean a1 a2 σ Q) :
    Met l yX0_glean (ws_ yX0_glean cX0_glean 3 (some .int)) xxr_glean (va_Pc [.ref (ad 0), .int a1, .int a2] (fun U => xx_V D E A ad sk σ U U.heap)) (va_Qi Q (fun u t => xx_W D E A ad sk u t t.heap) A) 0 0 A := by
  refine gg_entry (W0 := fun s H => xx_V D E A ad sk σ s H) (by decide) (Nat.le_of_ble_eq_true rfl) ?_
  intro p e s m args below meth c C0 hV ls hl
  have C0 : gg_C p s m args meth c RX0 cX0_glean 3 (some .int) := C0
  obtain ⟨hx, hb, hml, hown, hts, hr, hlocks⟩ := id C0
  have hl : lv_has ls 3 [(0, .ref (ad 0)), (1, .int a1), (2, .int a2)] := hl
  have hS : va_S A s.heap s.heap [] := va_S.rf
  have hA : xx_A sk A s := hV.2
  have hW : xx_W D E A ad sk σ s s.heap := hV.1
  unfold xxw_glean at hw
  refine lv_aload_n hx hb dX0_glean_0 rfl (lv_at hl 0 rfl) ?_
  refine lv_iload_n hx hb dX0_glean_1 rfl (lv_at hl 1 rfl) ?_
  refine xx_VI ⟨hx, hb, hml, hown, hts⟩ hA (xxt_isOne l _ _ hw) (cwV 1 hts (lw_V q245 q247 qs2 q103 q248) rfl rfl rfl cd_X0_isOne ⟨Nat.le_of_ble_eq_true rfl, Nat.le_of_ble_eq_true rfl⟩) hW (xx_recv hW) hS rfl hl.1 rfl (Nat.le_of_ble_eq_true rfl) dX0_glean_2 (fun r2 σ1 H locs hw hW hS => ?_)
  obtain ⟨hz_r2, hw⟩ := hw
  refine lv_if_eq (tgt := 24) hx hb dX0_glean_5 (by decide) (fun c8 => ?_) (fun c8 => ?_)
  · have hw := hw.1 c8
    refine lv_bipush (v := (-100 : Int32)) hx hb dX0_glean_24 (by decide) ?_
    exact gg_iret (xx_mv D E A ad sk) C0 hW hS hw dX0_glean_26
  · have hw := hw.2 c8
    refine lv_iload_n hx hb dX0_glean_8 rfl (lv_at hl 2 rfl) ?_
    refine xx_SI ⟨hx, hb, hml, hown, hts⟩ hA (xxt_isRow l _ _ hw) (va_cwS 1 hts (lw_S q220 q221 q103 q222) rfl rfl rfl cd_X0_isRow.2 ⟨Nat.le_of_ble_eq_true rfl, Nat.le_of_ble_eq_true rfl⟩) hW hS rfl hl.1 rfl (Nat.le_of_ble_eq_true rfl) dX0_glean_9 (fun r4 σ3 H locs hw hW hS => ?_)
    obtain ⟨hz_r4, hw⟩ := hw
    refine lv_if_eq (tgt := 24) hx hb dX0_glean_12 (by decide) (fun c7 => ?_) (fun c7 => ?_)
    · have hw := hw.1 c7
      refine lv_bipush (v := (-100 : Int32)) hx hb dX0_glean_24 (by decide) ?_
      exact gg_iret (xx_mv D E A ad sk) C0 hW hS hw dX0_glean_26
    · have hw := hw.2 c7
      refine lv_aload_n hx hb dX0_glean_15 rfl (lv_at hl 0 rfl) ?_
      refine lv_iload_n hx hb dX0_glean_16 rfl (lv_at hl 1 rfl) ?_
      refine lv_iload_n hx hb dX0_glean_17 rfl (lv_at hl 2 rfl) ?_
      refine xx_VI ⟨hx, hb, hml, hown, hts⟩ hA (xxt_gleans l _ _ _ hw) (cwV 2 hts (lw_V q926 q928 qs34 q103 q929) rfl rfl rfl cd_X0_gleans ⟨Nat.le_of_ble_eq_true rfl, Nat.le_of_ble_eq_true rfl⟩) hW (xx_recv hW) hS rfl hl.1 rfl (Nat.le_of_ble_eq_true rfl) dX0_glean_18 (fun r6 σ5 H locs hw hW hS => ?_)
      refine lv_goto (tgt := 26) hx hb dX0_glean_21 (by decide) ?_
      exact gg_iret (xx_mv D E A ad sk) C0 hW hS hw dX0_glean_26
theorem cd_X0_isOrder : yX0_isOrder.cls = RX0 ∧ yX0_isOrder.cls ≠ "java/lang/invoke/MethodHandle" ∧ yX0_isOrder.cls ≠ "java/lang/invoke/VarHandle" ∧ (parseMethodDescriptor yX0_isOrder.desc).map (fun d => d.parameters.length) = some 1 := by decide +kernel
/-! GleanersForGaps.isOrder(I)Z -/
def xxw_isOrder_42  (Q : Int32 → xx_S → Prop) (K7 : Int32 → Int32 → Int32 → Int32 → xx_S → Prop) (x1 : Int32) (x2 : Int32) (x4 : Int32) (s0 : Int32) (s1 : Int32) (σ : xx_S) : Prop :=
    K7 x1 (x2 / (10 : Int32)) (s0 ||| s1) (x4 + (1 : Int32)) σ
def xxw_isOrder_7  (Q : Int32 → xx_S → Prop)  : Nat → Int32 → Int32 → Int32 → Int32 → xx_S → Prop
  | 0, _, _, _, _, _ => False
  | n + 1, x1, x2, x3, x4, σ =>
    ((((xx_g σ 0 1) ≤ x4) → (((x1 < 0) → Q (0 : Int32) σ) ∧ (¬ (x1 < 0) → (((x2 = 0) → (xxw_bitCount x3 σ (fun r2 σ1 => (((r2 = (xx_g σ1 0 1)) → Q (1 : Int32) σ1) ∧ (¬ (r2 = (xx_g σ1 0 1)) → Q (0 : Int32) σ1))))) ∧ (¬ (x2 = 0) → Q (0 : Int32) σ))))) ∧ (¬ ((xx_g σ 0 1) ≤ x4) → (xxw_isOne ((x2 - x2 / (10 : Int32) * (10 : Int32)) - (1 : Int32)) σ (fun r7 σ6 => (((r7 = 0) → xxw_isOrder_42 Q (fun y0 y1 y2 y3 τ => xxw_isOrder_7 Q n y0 y1 y2 y3 τ) x1 x2 x4 x3 (0 : Int32) σ6) ∧ (¬ (r7 = 0) → xxw_isOrder_42 Q (fun y0 y1 y2 y3 τ => xxw_isOrder_7 Q n y0 y1 y2 y3 τ) x1 x2 x4 x3 ((1 : Int32) <<< (((x2 - x2 / (10 : Int32) * (10 : Int32)) - (1 : Int32)) &&& 31)) σ6))))))
def xxw_isOrder  (a1 : Int32) (σ : xx_S) (Q : Int32 → xx_S → Prop) : Prop :=
    ∃ k9, xxw_isOrder_7 Q k9 a1 a1 (0 : Int32) (0 : Int32) σ
abbrev xxr_isOrder : Room := { frames := 2, cells := 0, slots := 0, locals := 46 }
set_option maxHeartbeats 4000000 in
set_option maxRecDepth 100000 in
theorem xxk_isOrder_42 {p : Program} {l : Launch} {e : Env} {s : State} {m : MethodId} {args : Array Value} {below : List Frame} {meth : Method} {c : Code} {D : va_G} {E : Nat → ClassId} {A : Nat → Prop} {ad sk : Nat → Nat} {Q : Int32 → xx_S → Prop} {K7 : Int32 → Int32 → Int32 → Int32 → xx_S → Prop}  (C0 : gg_C p s m args meth c RX0 cX0_isOrder 6 (some .boolean)) (hA : xx_A sk A s) (hK7 : ∀ (x1 : Int32) (x2 : Int32) (x3 : Int32) (x4 : Int32) (σ : xx_S) (H : Heap) (locs : List Loc) (ls : Array Slot), K7 x1 x2 x3 x4 σ → xx_W D E A ad sk σ s H → va_S A s.heap H locs → lv_has ls 6 [(0, .ref (ad 0)), (1, .int x1), (2, .int x2), (3, .int x3), (4, .int x4)] → W p l e xxr_isOrder s m args below meth c H locs 0 0 (MQ below (va_Qi (fun r u => (r = 0 ∨ r = 1) ∧ Q r u) (fun u t => xx_W D E A ad sk u t t.heap) A) args s 0 0 A) (F0 m 7 ls [])) :
    ∀ (x1 : Int32) (x2 : Int32) (x4 : Int32) (s0 : Int32) (s1 : Int32) (σ : xx_S) (H : Heap) (locs : List Loc) (ls : Array Slot), xxw_isOrder_42 Q K7 x1 x2 x4 s0 s1 σ → xx_W D E A ad sk σ s H → va_S A s.heap H locs → lv_has ls 6 [(0, .ref (ad 0)), (1, .int x1), (2, .int x2), (4, .int x4)] → W p l e xxr_isOrder s m args below meth c H locs 0 0 (MQ below (va_Qi (fun r u => (r = 0 ∨ r = 1) ∧ Q r u) (fun u t => xx_W D E A ad sk u t t.heap) A) args s 0 0 A) (F0 m 42 ls [.int s1, .int s0]) := by
  obtain ⟨hx, hb, hml, hown, hts, hr, hlocks⟩ := id C0
  intro x1 x2 x4 s0 s1 σ H locs ls hw hW hS hl
  unfold xxw_isOrder_42 at hw
  refine lv_ior hx hb dX0_isOrder_42 ?_
  refine lv_istore_n (lv' := [(3, .int (s0 ||| s1)), (0, .ref (ad 0)), (1, .int x1), (2, .int x2), (4, .int x4)]) hx hb dX0_isOrder_43 rfl hl (by decide) rfl (fun ls hl => ?_)
  refine lv_iload_n hx hb dX0_isOrder_44 rfl (lv_at hl 3 rfl) ?_
  refine lv_bipush (v := (10 : Int32)) hx hb dX0_isOrder_45 (by decide) ?_
  refine lv_idiv hx hb dX0_isOrder_47 (by decide) ?_
  refine lv_istore_n (lv' := [(2, .int (x2 / (10 : Int32))), (3, .int (s0 ||| s1)), (0, .ref (ad 0)), (1, .int x1), (4, .int x4)]) hx hb dX0_isOrder_48 rfl hl (by decide) rfl (fun ls hl => ?_)
  refine lv_iinc (v := (x4 + (1 : Int32))) (lv' := [(4, .int (x4 + (1 : Int32))), (2, .int (x2 / (10 : Int32))), (3, .int (s0 ||| s1)), (0, .ref (ad 0)), (1, .int x1)]) hx hb dX0_isOrder_49 hl (k := 4) rfl rfl (by decide) rfl (fun ls hl => ?_)
  refine lv_goto (tgt := 7) hx hb dX0_isOrder_52 (by decide) ?_
  exact hK7 x1 (x2 / (10 : Int32)) (s0 ||| s1) (x4 + (1 : Int32)) σ _ _ _ hw hW hS (lv_sub hl [3, 4, 1, 2, 0] rfl)
set_option maxHeartbeats 4000000 in
set_option maxRecDepth 100000 in
theorem xxk_isOrder_7 {p : Program} {l : Launch} {e : Env} {s : State} {m : MethodId} {args : Array Value} {below : List Frame} {meth : Method} {c : Code} {D : va_G} {E : Nat → ClassId} {A : Nat → Prop} {ad sk : Nat → Nat} {Q : Int32 → xx_S → Prop}   (C0 : gg_C p s m args meth c RX0 cX0_isOrder 6 (some .boolean)) (hA : xx_A sk A s) :
    ∀ n : Nat, ∀ (x1 : Int32) (x2 : Int32) (x3 : Int32) (x4 : Int32) (σ : xx_S) (H : Heap) (locs : List Loc) (ls : Array Slot), xxw_isOrder_7 Q n x1 x2 x3 x4 σ → xx_W D E A ad sk σ s H → va_S A s.heap H locs → lv_has ls 6 [(0, .ref (ad 0)), (1, .int x1), (2, .int x2), (3, .int x3), (4, .int x4)] → W p l e xxr_isOrder s m args below meth c H locs 0 0 (MQ below (va_Qi (fun r u => (r = 0 ∨ r = 1) ∧ Q r u) (fun u t => xx_W D E A ad sk u t t.heap) A) args s 0 0 A) (F0 m 7 ls []) := by
  obtain ⟨hx, hb, hml, hown, hts, hr, hlocks⟩ := id C0
  intro n
  induction n with
  | zero =>
    intro x1 x2 x3 x4 σ H locs ls hw hW hS hl
    exact absurd hw (by unfold xxw_isOrder_7; exact id)
  | succ n ih =>
    intro x1 x2 x3 x4 σ H locs ls hw hW hS hl
    unfold xxw_isOrder_7 at hw
    refine lv_iload hx hb dX0_isOrder_7 (lv_at hl 4 rfl) ?_
    refine lv_aload_n hx hb dX0_isOrder_9 rfl (lv_at hl 0 rfl) ?_
    refine xx_geti hx hb hts hown hW 1 (by decide) q745 dX0_isOrder_10 ?_
    refine lv_icmp_ge (tgt := 55) hx hb dX0_isOrder_13 (by decide) (fun c9 => ?_) (fun c9 => ?_)
    · have hw := hw.1 c9
      refine lv_iload_n hx hb dX0_isOrder_55 rfl (lv_at hl 1 rfl) ?_
      refine lv_if_lt (tgt := 78) hx hb dX0_isOrder_56 (by decide) (fun c5 => ?_) (fun c5 => ?_)
      · have hw := hw.1 c5
        refine lv_iconst (v := (0 : Int32)) hx hb dX0_isOrder_78 (by decide) ?_
        exact gg_zret (xx_mv D E A ad sk) C0 hW hS (Or.inl rfl) hw dX0_isOrder_79
      · have hw := hw.2 c5
        refine lv_iload_n hx hb dX0_isOrder_59 rfl (lv_at hl 2 rfl) ?_
        refine lv_if_ne (tgt := 78) hx hb dX0_isOrder_60 (by decide) (fun c4 => ?_) (fun c4 => ?_)
        · have hw := hw.2 c4
          refine lv_iconst (v := (0 : Int32)) hx hb dX0_isOrder_78 (by decide) ?_
          exact gg_zret (xx_mv D E A ad sk) C0 hW hS (Or.inl rfl) hw dX0_isOrder_79
        · have hw := hw.1 c4
          refine lv_iload_n hx hb dX0_isOrder_63 rfl (lv_at hl 3 rfl) ?_
          refine xx_SI ⟨hx, hb, hml, hown, hts⟩ hA (xxt_bitCount l _ _ hw) (va_cwS 1 hts (lw_S q230 q231 q121 q232) rfl rfl rfl cd_J9_bitCount.2 ⟨Nat.le_of_ble_eq_true rfl, Nat.le_of_ble_eq_true rfl⟩) hW hS rfl hl.1 rfl (Nat.le_of_ble_eq_true rfl) dX0_isOrder_64 (fun r2 σ1 H locs hw hW hS => ?_)
          refine lv_aload_n hx hb dX0_isOrder_67 rfl (lv_at hl 0 rfl) ?_
          refine xx_geti hx hb hts hown hW 1 (by decide) q745 dX0_isOrder_68 ?_
          refine lv_icmp_ne (tgt := 78) hx hb dX0_isOrder_71 (by decide) (fun c3 => ?_) (fun c3 => ?_)
          · have hw := hw.2 c3
            refine lv_iconst (v := (0 : Int32)) hx hb dX0_isOrder_78 (by decide) ?_
            exact gg_zret (xx_mv D E A ad sk) C0 hW hS (Or.inl rfl) hw dX0_isOrder_79
          · have hw := hw.1 c3
            refine lv_iconst (v := (1 : Int32)) hx hb dX0_isOrder_74 (by decide) ?_
            refine lv_goto (tgt := 79) hx hb dX0_isOrder_75 (by decide) ?_
            exact gg_zret (xx_mv D E A ad sk) C0 hW hS (Or.inr rfl) hw dX0_isOrder_79
    · have hw := hw.2 c9
      refine lv_iload_n hx hb dX0_isOrder_16 rfl (lv_at hl 2 rfl) ?_
      refine lv_bipush (v := (10 : Int32)) hx hb dX0_isOrder_17 (by decide) ?_
      refine lv_irem hx hb dX0_isOrder_19 (by decide) ?_
      refine lv_iconst (v := (1 : Int32)) hx hb dX0_isOrder_20 (by decide) ?_
      refine lv_isub hx hb dX0_isOrder_21 ?_
      refine lv_istore (lv' := [(5, .int ((x2 - x2 / (10 : Int32) * (10 : Int32)) - (1 : Int32))), (0, .ref (ad 0)), (1, .int x1), (2, .int x2), (3, .int x3), (4, .int x4)]) hx hb dX0_isOrder_22 hl (by decide) rfl (fun ls hl => ?_)
      refine lv_iload_n hx hb dX0_isOrder_24 rfl (lv_at hl 4 rfl) ?_
      refine lv_aload_n hx hb dX0_isOrder_25 rfl (lv_at hl 1 rfl) ?_
      refine lv_iload hx hb dX0_isOrder_26 (lv_at hl 0 rfl) ?_
      refine xx_VI ⟨hx, hb, hml, hown, hts⟩ hA (xxt_isOne l _ _ hw) (cwV 1 hts (lw_V q245 q247 qs2 q103 q248) rfl rfl rfl cd_X0_isOne ⟨Nat.le_of_ble_eq_true rfl, Nat.le_of_ble_eq_true rfl⟩) hW (xx_recv hW) hS rfl hl.1 rfl (Nat.le_of_ble_eq_true rfl) dX0_isOrder_28 (fun r7 σ6 H locs hw hW hS => ?_)
      obtain ⟨hz_r7, hw⟩ := hw
      refine lv_if_eq (tgt := 41) hx hb dX0_isOrder_31 (by decide) (fun c8 => ?_) (fun c8 => ?_)
      · have hw := hw.1 c8
        refine lv_iconst (v := (0 : Int32)) hx hb dX0_isOrder_41 (by decide) ?_
        exact xxk_isOrder_42  C0 hA (fun y0 y1 y2 y3 τ H9 l9 s9 => ih y0 y1 y2 y3 τ H9 l9 s9) x1 x2 x4 x3 (0 : Int32) σ6 _ _ _ hw hW hS (lv_sub hl [1, 2, 3, 5] rfl)
      · have hw := hw.2 c8
        refine lv_iconst (v := (1 : Int32)) hx hb dX0_isOrder_34 (by decide) ?_
        refine lv_iload hx hb dX0_isOrder_35 (lv_at hl 0 rfl) ?_
        refine lv_ishl hx hb dX0_isOrder_37 ?_
        refine lv_goto (tgt := 42) hx hb dX0_isOrder_38 (by decide) ?_
        exact xxk_isOrder_42  C0 hA (fun y0 y1 y2 y3 τ H9 l9 s9 => ih y0 y1 y2 y3 τ H9 l9 s9) x1 x2 x4 x3 ((1 : Int32) <<< (((x2 - x2 / (10 : Int32) * (10 : Int32)) - (1 : Int32)) &&& 31)) σ6 _ _ _ hw hW hS (lv_sub hl [1, 2, 3, 5] rfl)
set_option maxHeartbeats 4000000 in
set_option maxRecDepth 100000 in
theorem xxt_isOrder (l : Launch) {D : va_G} {E : Nat → ClassId} {A : Nat → Prop} {ad sk : Nat → Nat}  (a1 : Int32) (σ : xx_S) {Q : Int32 → xx_S → Prop} (hw : xxw_isOrder a1 σ Q) :
    Met l yX0_isOrder (ws_ yX0_isOrder cX0_isOrder 6 (some .boolean)) xxr_isOrder (va_Pc [.ref (ad 0), .int a1] (fun U => xx_V D E A ad sk σ U U.heap)) (va_Qi (fun r u => (r = 0 ∨ r = 1) ∧ Q r u) (fun u t => xx_W D E A ad sk u t t.heap) A) 0 0 A := by
  refine gg_entry (W0 := fun s H => xx_V D E A ad sk σ s H) (by decide) (Nat.le_of_ble_eq_true rfl) ?_
  intro p e s m args below meth c C0 hV ls hl
  have C0 : gg_C p s m args meth c RX0 cX0_isOrder 6 (some .boolean) := C0
  obtain ⟨hx, hb, hml, hown, hts, hr, hlocks⟩ := id C0
  have hl : lv_has ls 6 [(0, .ref (ad 0)), (1, .int a1)] := hl
  have hS : va_S A s.heap s.heap [] := va_S.rf
  have hA : xx_A sk A s := hV.2
  have hW : xx_W D E A ad sk σ s s.heap := hV.1
  unfold xxw_isOrder at hw
  refine lv_iload_n hx hb dX0_isOrder_0 rfl (lv_at hl 1 rfl) ?_
  refine lv_istore_n (lv' := [(2, .int a1), (0, .ref (ad 0)), (1, .int a1)]) hx hb dX0_isOrder_1 rfl hl (by decide) rfl (fun ls hl => ?_)
  refine lv_iconst (v := (0 : Int32)) hx hb dX0_isOrder_2 (by decide) ?_
  refine lv_istore_n (lv' := [(3, .int (0 : Int32)), (2, .int a1), (0, .ref (ad 0)), (1, .int a1)]) hx hb dX0_isOrder_3 rfl hl (by decide) rfl (fun ls hl => ?_)
  refine lv_iconst (v := (0 : Int32)) hx hb dX0_isOrder_4 (by decide) ?_
  refine lv_istore (lv' := [(4, .int (0 : Int32)), (3, .int (0 : Int32)), (2, .int a1), (0, .ref (ad 0)), (1, .int a1)]) hx hb dX0_isOrder_5 hl (by decide) rfl (fun ls hl => ?_)
  obtain ⟨n9, hw⟩ := hw
  exact xxk_isOrder_7  C0 hA  n9 a1 a1 (0 : Int32) (0 : Int32) σ _ _ _ hw hW hS (lv_sub hl [3, 4, 2, 1, 0] rfl)
theorem cd_X0_go : yX0_go.cls = RX0 ∧ yX0_go.cls ≠ "java/lang/invoke/MethodHandle" ∧ yX0_go.cls ≠ "java/lang/invoke/VarHandle" ∧ (parseMethodDescriptor yX0_go.desc).map (fun d => d.parameters.length) = some 2 := by decide +kernel
/-! GleanersForGaps.go(II)I -/
def xxw_go_76  (Q : Int32 → xx_S → Prop)  (x1 : Int32) (σ : xx_S) : Prop :=
    (xxw_gapsOf x1 σ (fun r6 σ5 => Q r6 σ5))
def xxw_go_43  (Q : Int32 → xx_S → Prop)  : Nat → Int32 → Int32 → Int32 → xx_S → Prop
  | 0, _, _, _, _ => False
  | n + 1, x1, x2, x3, σ =>
    ((((xx_g σ 0 1) ≤ 0) → xxw_go_76 Q x1 σ) ∧ (¬ ((xx_g σ 0 1) ≤ 0) → (((x3 ≤ 0) → xxw_go_76 Q x1 σ) ∧ (¬ (x3 ≤ 0) → (¬ x3 = 0) ∧ (xxw_gleans (((x2 / x3) - (x2 / x3) / (10 : Int32) * (10 : Int32)) - (1 : Int32)) x1 σ (fun r8 σ7 => xxw_go_43 Q n x1 x2 (x3 / (10 : Int32)) σ7))))))
def xxw_go_23  (Q : Int32 → xx_S → Prop)  : Nat → Int32 → Int32 → Int32 → Int32 → xx_S → Prop
  | 0, _, _, _, _, _ => False
  | n + 1, x1, x2, x3, x4, σ =>
    ((((xx_g σ 0 1) ≤ x4) → ∃ k9, xxw_go_43 Q k9 x1 x2 x3 σ) ∧ (¬ ((xx_g σ 0 1) ≤ x4) → xxw_go_23 Q n x1 x2 (x3 * (10 : Int32)) (x4 + (1 : Int32)) σ))
def xxw_go  (a1 : Int32) (a2 : Int32) (σ : xx_S) (Q : Int32 → xx_S → Prop) : Prop :=
    (xxw_isRow a1 σ (fun r2 σ1 => (((r2 = 0) → Q (-2 : Int32) σ1) ∧ (¬ (r2 = 0) → (xxw_isOrder a2 σ1 (fun r4 σ3 => (((r4 = 0) → Q (-2 : Int32) σ3) ∧ (¬ (r4 = 0) → ∃ k9, xxw_go_23 Q k9 a1 a2 (1 : Int32) (1 : Int32) σ3))))))))
abbrev xxr_go : Room := { frames := 206, cells := 0, slots := 0, locals := 6102 }
set_option maxHeartbeats 4000000 in
set_option maxRecDepth 100000 in
theorem xxk_go_76 {p : Program} {l : Launch} {e : Env} {s : State} {m : MethodId} {args : Array Value} {below : List Frame} {meth : Method} {c : Code} {D : va_G} {E : Nat → ClassId} {A : Nat → Prop} {ad sk : Nat → Nat} {Q : Int32 → xx_S → Prop}   (C0 : gg_C p s m args meth c RX0 cX0_go 5 (some .int)) (hA : xx_A sk A s) :
    ∀ (x1 : Int32) (σ : xx_S) (H : Heap) (locs : List Loc) (ls : Array Slot), xxw_go_76 Q x1 σ → xx_W D E A ad sk σ s H → va_S A s.heap H locs → lv_has ls 5 [(0, .ref (ad 0)), (1, .int x1)] → W p l e xxr_go s m args below meth c H locs 0 0 (MQ below (va_Qi Q (fun u t => xx_W D E A ad sk u t t.heap) A) args s 0 0 A) (F0 m 76 ls []) := by
  obtain ⟨hx, hb, hml, hown, hts, hr, hlocks⟩ := id C0
  intro x1 σ H locs ls hw hW hS hl
  unfold xxw_go_76 at hw
  refine lv_aload_n hx hb dX0_go_76 rfl (lv_at hl 0 rfl) ?_
  refine lv_iload_n hx hb dX0_go_77 rfl (lv_at hl 1 rfl) ?_
  refine xx_VI ⟨hx, hb, hml, hown, hts⟩ hA (xxt_gapsOf l _ _ hw) (cwV 1 hts (lw_V q225 q227 qs0 q103 q229) rfl rfl rfl cd_X0_gapsOf ⟨Nat.le_of_ble_eq_true rfl, Nat.le_of_ble_eq_true rfl⟩) hW (xx_recv hW) hS rfl hl.1 rfl (Nat.le_of_ble_eq_true rfl) dX0_go_78 (fun r6 σ5 H locs hw hW hS => ?_)
  exact gg_iret (xx_mv D E A ad sk) C0 hW hS hw dX0_go_81
set_option maxHeartbeats 4000000 in
set_option maxRecDepth 100000 in
theorem xxk_go_43 {p : Program} {l : Launch} {e : Env} {s : State} {m : MethodId} {args : Array Value} {below : List Frame} {meth : Method} {c : Code} {D : va_G} {E : Nat → ClassId} {A : Nat → Prop} {ad sk : Nat → Nat} {Q : Int32 → xx_S → Prop}   (C0 : gg_C p s m args meth c RX0 cX0_go 5 (some .int)) (hA : xx_A sk A s) :
    ∀ n : Nat, ∀ (x1 : Int32) (x2 : Int32) (x3 : Int32) (σ : xx_S) (H : Heap) (locs : List Loc) (ls : Array Slot), xxw_go_43 Q n x1 x2 x3 σ → xx_W D E A ad sk σ s H → va_S A s.heap H locs → lv_has ls 5 [(0, .ref (ad 0)), (1, .int x1), (2, .int x2), (3, .int x3)] → W p l e xxr_go s m args below meth c H locs 0 0 (MQ below (va_Qi Q (fun u t => xx_W D E A ad sk u t t.heap) A) args s 0 0 A) (F0 m 43 ls []) := by
  obtain ⟨hx, hb, hml, hown, hts, hr, hlocks⟩ := id C0
  intro n
  induction n with
  | zero =>
    intro x1 x2 x3 σ H locs ls hw hW hS hl
    exact absurd hw (by unfold xxw_go_43; exact id)
  | succ n ih =>
    intro x1 x2 x3 σ H locs ls hw hW hS hl
    unfold xxw_go_43 at hw
    refine lv_aload_n hx hb dX0_go_43 rfl (lv_at hl 0 rfl) ?_
    refine xx_geti hx hb hts hown hW 1 (by decide) q745 dX0_go_44 ?_
    refine lv_if_le (tgt := 76) hx hb dX0_go_47 (by decide) (fun c10 => ?_) (fun c10 => ?_)
    · have hw := hw.1 c10
      exact xxk_go_76  C0 hA  x1 σ _ _ _ hw hW hS (lv_sub hl [0, 1] rfl)
    · have hw := hw.2 c10
      refine lv_iload_n hx hb dX0_go_50 rfl (lv_at hl 3 rfl) ?_
      refine lv_if_le (tgt := 76) hx hb dX0_go_51 (by decide) (fun c9 => ?_) (fun c9 => ?_)
      · have hw := hw.1 c9
        exact xxk_go_76  C0 hA  x1 σ _ _ _ hw hW hS (lv_sub hl [0, 1] rfl)
      · have hw := hw.2 c9
        refine lv_aload_n hx hb dX0_go_54 rfl (lv_at hl 0 rfl) ?_
        refine lv_iload_n hx hb dX0_go_55 rfl (lv_at hl 2 rfl) ?_
        refine lv_iload_n hx hb dX0_go_56 rfl (lv_at hl 3 rfl) ?_
        obtain ⟨hnz, hw⟩ := hw
        refine lv_idiv hx hb dX0_go_57 hnz ?_
        refine lv_bipush (v := (10 : Int32)) hx hb dX0_go_58 (by decide) ?_
        refine lv_irem hx hb dX0_go_60 (by decide) ?_
        refine lv_iconst (v := (1 : Int32)) hx hb dX0_go_61 (by decide) ?_
        refine lv_isub hx hb dX0_go_62 ?_
        refine lv_iload_n hx hb dX0_go_63 rfl (lv_at hl 1 rfl) ?_
        refine xx_VI ⟨hx, hb, hml, hown, hts⟩ hA (xxt_gleans l _ _ _ hw) (cwV 2 hts (lw_V q926 q928 qs34 q103 q929) rfl rfl rfl cd_X0_gleans ⟨Nat.le_of_ble_eq_true rfl, Nat.le_of_ble_eq_true rfl⟩) hW (xx_recv hW) hS rfl hl.1 rfl (Nat.le_of_ble_eq_true rfl) dX0_go_64 (fun r8 σ7 H locs hw hW hS => ?_)
        refine lv_pop hx hb dX0_go_67 rfl ?_
        refine lv_iload_n hx hb dX0_go_68 rfl (lv_at hl 3 rfl) ?_
        refine lv_bipush (v := (10 : Int32)) hx hb dX0_go_69 (by decide) ?_
        refine lv_idiv hx hb dX0_go_71 (by decide) ?_
        refine lv_istore_n (lv' := [(3, .int (x3 / (10 : Int32))), (0, .ref (ad 0)), (1, .int x1), (2, .int x2)]) hx hb dX0_go_72 rfl hl (by decide) rfl (fun ls hl => ?_)
        refine lv_goto (tgt := 43) hx hb dX0_go_73 (by decide) ?_
        exact ih x1 x2 (x3 / (10 : Int32)) σ7 _ _ _ hw hW hS (lv_sub hl [1, 2, 3, 0] rfl)
set_option maxHeartbeats 4000000 in
set_option maxRecDepth 100000 in
theorem xxk_go_23 {p : Program} {l : Launch} {e : Env} {s : State} {m : MethodId} {args : Array Value} {below : List Frame} {meth : Method} {c : Code} {D : va_G} {E : Nat → ClassId} {A : Nat → Prop} {ad sk : Nat → Nat} {Q : Int32 → xx_S → Prop}   (C0 : gg_C p s m args meth c RX0 cX0_go 5 (some .int)) (hA : xx_A sk A s) :
    ∀ n : Nat, ∀ (x1 : Int32) (x2 : Int32) (x3 : Int32) (x4 : Int32) (σ : xx_S) (H : Heap) (locs : List Loc) (ls : Array Slot), xxw_go_23 Q n x1 x2 x3 x4 σ → xx_W D E A ad sk σ s H → va_S A s.heap H locs → lv_has ls 5 [(0, .ref (ad 0)), (1, .int x1), (2, .int x2), (3, .int x3), (4, .int x4)] → W p l e xxr_go s m args below meth c H locs 0 0 (MQ below (va_Qi Q (fun u t => xx_W D E A ad sk u t t.heap) A) args s 0 0 A) (F0 m 23 ls []) := by
  obtain ⟨hx, hb, hml, hown, hts, hr, hlocks⟩ := id C0
  intro n
  induction n with
  | zero =>
    intro x1 x2 x3 x4 σ H locs ls hw hW hS hl
    exact absurd hw (by unfold xxw_go_23; exact id)
  | succ n ih =>
    intro x1 x2 x3 x4 σ H locs ls hw hW hS hl
    unfold xxw_go_23 at hw
    refine lv_iload hx hb dX0_go_23 (lv_at hl 4 rfl) ?_
    refine lv_aload_n hx hb dX0_go_25 rfl (lv_at hl 0 rfl) ?_
    refine xx_geti hx hb hts hown hW 1 (by decide) q745 dX0_go_26 ?_
    refine lv_icmp_ge (tgt := 43) hx hb dX0_go_29 (by decide) (fun c11 => ?_) (fun c11 => ?_)
    · have hw := hw.1 c11
      obtain ⟨n9, hw⟩ := hw
      exact xxk_go_43  C0 hA  n9 x1 x2 x3 σ _ _ _ hw hW hS (lv_sub hl [0, 1, 2, 3] rfl)
    · have hw := hw.2 c11
      refine lv_iload_n hx hb dX0_go_32 rfl (lv_at hl 3 rfl) ?_
      refine lv_bipush (v := (10 : Int32)) hx hb dX0_go_33 (by decide) ?_
      refine lv_imul hx hb dX0_go_35 ?_
      refine lv_istore_n (lv' := [(3, .int (x3 * (10 : Int32))), (0, .ref (ad 0)), (1, .int x1), (2, .int x2), (4, .int x4)]) hx hb dX0_go_36 rfl hl (by decide) rfl (fun ls hl => ?_)
      refine lv_iinc (v := (x4 + (1 : Int32))) (lv' := [(4, .int (x4 + (1 : Int32))), (3, .int (x3 * (10 : Int32))), (0, .ref (ad 0)), (1, .int x1), (2, .int x2)]) hx hb dX0_go_37 hl (k := 4) rfl rfl (by decide) rfl (fun ls hl => ?_)
      refine lv_goto (tgt := 23) hx hb dX0_go_40 (by decide) ?_
      exact ih x1 x2 (x3 * (10 : Int32)) (x4 + (1 : Int32)) σ _ _ _ hw hW hS (lv_sub hl [2, 3, 4, 1, 0] rfl)
set_option maxHeartbeats 4000000 in
set_option maxRecDepth 100000 in
theorem xxt_go (l : Launch) {D : va_G} {E : Nat → ClassId} {A : Nat → Prop} {ad sk : Nat → Nat}  (a1 : Int32) (a2 : Int32) (σ : xx_S) {Q : Int32 → xx_S → Prop} (hw : xxw_go a1 a2 σ Q) :
    Met l yX0_go (ws_ yX0_go cX0_go 5 (some .int)) xxr_go (va_Pc [.ref (ad 0), .int a1, .int a2] (fun U => xx_V D E A ad sk σ U U.heap)) (va_Qi Q (fun u t => xx_W D E A ad sk u t t.heap) A) 0 0 A := by
  refine gg_entry (W0 := fun s H => xx_V D E A ad sk σ s H) (by decide) (Nat.le_of_ble_eq_true rfl) ?_
  intro p e s m args below meth c C0 hV ls hl
  have C0 : gg_C p s m args meth c RX0 cX0_go 5 (some .int) := C0
  obtain ⟨hx, hb, hml, hown, hts, hr, hlocks⟩ := id C0
  have hl : lv_has ls 5 [(0, .ref (ad 0)), (1, .int a1), (2, .int a2)] := hl
  have hS : va_S A s.heap s.heap [] := va_S.rf
  have hA : xx_A sk A s := hV.2
  have hW : xx_W D E A ad sk σ s s.heap := hV.1
  unfold xxw_go at hw
  refine lv_iload_n hx hb dX0_go_0 rfl (lv_at hl 1 rfl) ?_
  refine xx_SI ⟨hx, hb, hml, hown, hts⟩ hA (xxt_isRow l _ _ hw) (va_cwS 1 hts (lw_S q220 q221 q103 q222) rfl rfl rfl cd_X0_isRow.2 ⟨Nat.le_of_ble_eq_true rfl, Nat.le_of_ble_eq_true rfl⟩) hW hS rfl hl.1 rfl (Nat.le_of_ble_eq_true rfl) dX0_go_1 (fun r2 σ1 H locs hw hW hS => ?_)
  obtain ⟨hz_r2, hw⟩ := hw
  refine lv_if_eq (tgt := 15) hx hb dX0_go_4 (by decide) (fun c13 => ?_) (fun c13 => ?_)
  · have hw := hw.1 c13
    refine lv_bipush (v := (-2 : Int32)) hx hb dX0_go_15 (by decide) ?_
    exact gg_iret (xx_mv D E A ad sk) C0 hW hS hw dX0_go_17
  · have hw := hw.2 c13
    refine lv_aload_n hx hb dX0_go_7 rfl (lv_at hl 0 rfl) ?_
    refine lv_iload_n hx hb dX0_go_8 rfl (lv_at hl 2 rfl) ?_
    refine xx_VI ⟨hx, hb, hml, hown, hts⟩ hA (xxt_isOrder l _ _ hw) (cwV 1 hts (lw_V q942 q944 qs37 q103 q945) rfl rfl rfl cd_X0_isOrder ⟨Nat.le_of_ble_eq_true rfl, Nat.le_of_ble_eq_true rfl⟩) hW (xx_recv hW) hS rfl hl.1 rfl (Nat.le_of_ble_eq_true rfl) dX0_go_9 (fun r4 σ3 H locs hw hW hS => ?_)
    obtain ⟨hz_r4, hw⟩ := hw
    refine lv_if_ne (tgt := 18) hx hb dX0_go_12 (by decide) (fun c12 => ?_) (fun c12 => ?_)
    · have hw := hw.2 c12
      refine lv_iconst (v := (1 : Int32)) hx hb dX0_go_18 (by decide) ?_
      refine lv_istore_n (lv' := [(3, .int (1 : Int32)), (0, .ref (ad 0)), (1, .int a1), (2, .int a2)]) hx hb dX0_go_19 rfl hl (by decide) rfl (fun ls hl => ?_)
      refine lv_iconst (v := (1 : Int32)) hx hb dX0_go_20 (by decide) ?_
      refine lv_istore (lv' := [(4, .int (1 : Int32)), (3, .int (1 : Int32)), (0, .ref (ad 0)), (1, .int a1), (2, .int a2)]) hx hb dX0_go_21 hl (by decide) rfl (fun ls hl => ?_)
      obtain ⟨n9, hw⟩ := hw
      exact xxk_go_23  C0 hA  n9 a1 a2 (1 : Int32) (1 : Int32) σ3 _ _ _ hw hW hS (lv_sub hl [2, 3, 4, 1, 0] rfl)
    · have hw := hw.1 c12
      refine lv_bipush (v := (-2 : Int32)) hx hb dX0_go_15 (by decide) ?_
      exact gg_iret (xx_mv D E A ad sk) C0 hW hS hw dX0_go_17
theorem cd_X0_gapsAll : yX0_gapsAll.cls = RX0 ∧ yX0_gapsAll.cls ≠ "java/lang/invoke/MethodHandle" ∧ yX0_gapsAll.cls ≠ "java/lang/invoke/VarHandle" ∧ (parseMethodDescriptor yX0_gapsAll.desc).map (fun d => d.parameters.length) = some 0 := by decide +kernel
/-! GleanersForGaps.gapsAll()I -/
def xxw_gapsAll_4  (Q : Int32 → xx_S → Prop)  : Nat → Int32 → Int32 → xx_S → Prop
  | 0, _, _, _ => False
  | n + 1, x1, x2, σ =>
    ((((4 : Int32) ≤ x2) → Q x1 σ) ∧ (¬ ((4 : Int32) ≤ x2) → (xxw_gapsOf x2 σ (fun r2 σ1 => xxw_gapsAll_4 Q n (x1 + r2) (x2 + (1 : Int32)) σ1))))
def xxw_gapsAll   (σ : xx_S) (Q : Int32 → xx_S → Prop) : Prop :=
    ∃ k9, xxw_gapsAll_4 Q k9 (0 : Int32) (0 : Int32) σ
abbrev xxr_gapsAll : Room := { frames := 2, cells := 0, slots := 0, locals := 41 }
set_option maxHeartbeats 4000000 in
set_option maxRecDepth 100000 in
theorem xxk_gapsAll_4 {p : Program} {l : Launch} {e : Env} {s : State} {m : MethodId} {args : Array Value} {below : List Frame} {meth : Method} {c : Code} {D : va_G} {E : Nat → ClassId} {A : Nat → Prop} {ad sk : Nat → Nat} {Q : Int32 → xx_S → Prop}   (C0 : gg_C p s m args meth c RX0 cX0_gapsAll 3 (some .int)) (hA : xx_A sk A s) :
    ∀ n : Nat, ∀ (x1 : Int32) (x2 : Int32) (σ : xx_S) (H : Heap) (locs : List Loc) (ls : Array Slot), xxw_gapsAll_4 Q n x1 x2 σ → xx_W D E A ad sk σ s H → va_S A s.heap H locs → lv_has ls 3 [(0, .ref (ad 0)), (1, .int x1), (2, .int x2)] → W p l e xxr_gapsAll s m args below meth c H locs 0 0 (MQ below (va_Qi Q (fun u t => xx_W D E A ad sk u t t.heap) A) args s 0 0 A) (F0 m 4 ls []) := by
  obtain ⟨hx, hb, hml, hown, hts, hr, hlocks⟩ := id C0
  intro n
  induction n with
  | zero =>
    intro x1 x2 σ H locs ls hw hW hS hl
    exact absurd hw (by unfold xxw_gapsAll_4; exact id)
  | succ n ih =>
    intro x1 x2 σ H locs ls hw hW hS hl
    unfold xxw_gapsAll_4 at hw
    refine lv_iload_n hx hb dX0_gapsAll_4 rfl (lv_at hl 2 rfl) ?_
    refine lv_iconst (v := (4 : Int32)) hx hb dX0_gapsAll_5 (by decide) ?_
    refine lv_icmp_ge (tgt := 23) hx hb dX0_gapsAll_6 (by decide) (fun c3 => ?_) (fun c3 => ?_)
    · have hw := hw.1 c3
      refine lv_iload_n hx hb dX0_gapsAll_23 rfl (lv_at hl 1 rfl) ?_
      exact gg_iret (xx_mv D E A ad sk) C0 hW hS hw dX0_gapsAll_24
    · have hw := hw.2 c3
      refine lv_iload_n hx hb dX0_gapsAll_9 rfl (lv_at hl 1 rfl) ?_
      refine lv_aload_n hx hb dX0_gapsAll_10 rfl (lv_at hl 0 rfl) ?_
      refine lv_iload_n hx hb dX0_gapsAll_11 rfl (lv_at hl 2 rfl) ?_
      refine xx_VI ⟨hx, hb, hml, hown, hts⟩ hA (xxt_gapsOf l _ _ hw) (cwV 1 hts (lw_V q225 q227 qs0 q103 q229) rfl rfl rfl cd_X0_gapsOf ⟨Nat.le_of_ble_eq_true rfl, Nat.le_of_ble_eq_true rfl⟩) hW (xx_recv hW) hS rfl hl.1 rfl (Nat.le_of_ble_eq_true rfl) dX0_gapsAll_12 (fun r2 σ1 H locs hw hW hS => ?_)
      refine lv_iadd hx hb dX0_gapsAll_15 ?_
      refine lv_istore_n (lv' := [(1, .int (x1 + r2)), (0, .ref (ad 0)), (2, .int x2)]) hx hb dX0_gapsAll_16 rfl hl (by decide) rfl (fun ls hl => ?_)
      refine lv_iinc (v := (x2 + (1 : Int32))) (lv' := [(2, .int (x2 + (1 : Int32))), (1, .int (x1 + r2)), (0, .ref (ad 0))]) hx hb dX0_gapsAll_17 hl (k := 2) rfl rfl (by decide) rfl (fun ls hl => ?_)
      refine lv_goto (tgt := 4) hx hb dX0_gapsAll_20 (by decide) ?_
      exact ih (x1 + r2) (x2 + (1 : Int32)) σ1 _ _ _ hw hW hS (lv_sub hl [2, 1, 0] rfl)
set_option maxHeartbeats 4000000 in
set_option maxRecDepth 100000 in
theorem xxt_gapsAll (l : Launch) {D : va_G} {E : Nat → ClassId} {A : Nat → Prop} {ad sk : Nat → Nat}   (σ : xx_S) {Q : Int32 → xx_S → Prop} (hw : xxw_gapsAll σ Q) :
    Met l yX0_gapsAll (ws_ yX0_gapsAll cX0_gapsAll 3 (some .int)) xxr_gapsAll (va_Pc [.ref (ad 0)] (fun U => xx_V D E A ad sk σ U U.heap)) (va_Qi Q (fun u t => xx_W D E A ad sk u t t.heap) A) 0 0 A := by
  refine gg_entry (W0 := fun s H => xx_V D E A ad sk σ s H) (by decide) (Nat.le_of_ble_eq_true rfl) ?_
  intro p e s m args below meth c C0 hV ls hl
  have C0 : gg_C p s m args meth c RX0 cX0_gapsAll 3 (some .int) := C0
  obtain ⟨hx, hb, hml, hown, hts, hr, hlocks⟩ := id C0
  have hl : lv_has ls 3 [(0, .ref (ad 0))] := hl
  have hS : va_S A s.heap s.heap [] := va_S.rf
  have hA : xx_A sk A s := hV.2
  have hW : xx_W D E A ad sk σ s s.heap := hV.1
  unfold xxw_gapsAll at hw
  refine lv_iconst (v := (0 : Int32)) hx hb dX0_gapsAll_0 (by decide) ?_
  refine lv_istore_n (lv' := [(1, .int (0 : Int32)), (0, .ref (ad 0))]) hx hb dX0_gapsAll_1 rfl hl (by decide) rfl (fun ls hl => ?_)
  refine lv_iconst (v := (0 : Int32)) hx hb dX0_gapsAll_2 (by decide) ?_
  refine lv_istore_n (lv' := [(2, .int (0 : Int32)), (1, .int (0 : Int32)), (0, .ref (ad 0))]) hx hb dX0_gapsAll_3 rfl hl (by decide) rfl (fun ls hl => ?_)
  obtain ⟨n9, hw⟩ := hw
  exact xxk_gapsAll_4  C0 hA  n9 (0 : Int32) (0 : Int32) σ _ _ _ hw hW hS (lv_sub hl [2, 1, 0] rfl)
theorem cd_X0_passes : yX0_passes.cls = RX0 ∧ yX0_passes.cls ≠ "java/lang/invoke/MethodHandle" ∧ yX0_passes.cls ≠ "java/lang/invoke/VarHandle" ∧ (parseMethodDescriptor yX0_passes.desc).map (fun d => d.parameters.length) = some 0 := by decide +kernel
/-! GleanersForGaps.passes()V -/
def xxw_passes_98  (Q : xx_S → Prop)  : Nat → Int32 → xx_S → Prop
  | 0, _, _ => False
  | n + 1, x1, σ =>
    ((((4 : Int32) ≤ x1) → (∀ σ1 : xx_S, σ1 = xx_s σ 0 2 ((xx_g σ 0 2) + (1 : Int32)) → Q σ1)) ∧ (¬ ((4 : Int32) ≤ x1) → vp_in x1 4 ∧ vp_in ((5 : Int32) + x1) 9 ∧ vp_in x1 4 ∧ (∀ σ2 : xx_S, σ2 = xx_s σ 1 x1.toNatClampNeg ((xx_g σ 1 x1.toNatClampNeg) + (xx_g σ 5 ((5 : Int32) + x1).toNatClampNeg)) → xxw_passes_98 Q n (x1 + (1 : Int32)) σ2)))
def xxw_passes_67  (Q : xx_S → Prop)  : Nat → Int32 → xx_S → Prop
  | 0, _, _ => False
  | n + 1, x1, σ =>
    ((((xx_g σ 0 1) ≤ x1) → ∃ k9, xxw_passes_98 Q k9 (0 : Int32) σ) ∧ (¬ ((xx_g σ 0 1) ≤ x1) → vp_in x1 5 ∧ ∃ y4 : Nat, xx_r σ 43 x1.toNatClampNeg = some y4 ∧ vp_in x1 9 ∧ ∃ (k5 : Nat) (nk5 ak5 : Int32), xx_gl σ y4 k5 nk5 ak5 ∧ (∀ σ6 : xx_S, σ6 = xx_ps σ y4 (.inr (k5, [.int nk5, .int (xx_g σ 5 x1.toNatClampNeg)])) → xxw_passes_67 Q n (x1 + (1 : Int32)) σ6)))
def xxw_passes_29  (Q : xx_S → Prop)  : Nat → Int32 → xx_S → Prop
  | 0, _, _ => False
  | n + 1, x1, σ =>
    ((((4 : Int32) ≤ x1) → ∃ k9, xxw_passes_67 Q k9 (0 : Int32) σ) ∧ (¬ ((4 : Int32) ≤ x1) → (xxw_shakesOf x1 σ (fun r9 σ8 => vp_in x1 4 ∧ vp_in ((5 : Int32) + x1) 9 ∧ (∀ σ10 : xx_S, σ10 = xx_s σ8 5 ((5 : Int32) + x1).toNatClampNeg (if ((24 : Int32) - (xx_g σ8 1 x1.toNatClampNeg)) < r9 then ((24 : Int32) - (xx_g σ8 1 x1.toNatClampNeg)) else r9) → xxw_passes_29 Q n (x1 + (1 : Int32)) σ10)))))
def xxw_passes_2  (Q : xx_S → Prop)  : Nat → Int32 → xx_S → Prop
  | 0, _, _ => False
  | n + 1, x1, σ =>
    ((((xx_g σ 0 1) ≤ x1) → ∃ k9, xxw_passes_29 Q k9 (0 : Int32) σ) ∧ (¬ ((xx_g σ 0 1) ≤ x1) → (xxw_keepsOf x1 σ (fun r13 σ12 => vp_in x1 9 ∧ (∀ σ14 : xx_S, σ14 = xx_s σ12 5 x1.toNatClampNeg r13 → xxw_passes_2 Q n (x1 + (1 : Int32)) σ14)))))
def xxw_passes   (σ : xx_S) (Q : xx_S → Prop) : Prop :=
    ∃ k9, xxw_passes_2 Q k9 (0 : Int32) σ
abbrev xxr_passes : Room := { frames := 204, cells := 0, slots := 0, locals := 6045 }
set_option maxHeartbeats 4000000 in
set_option maxRecDepth 100000 in
theorem xxk_passes_98 {p : Program} {l : Launch} {e : Env} {s : State} {m : MethodId} {args : Array Value} {below : List Frame} {meth : Method} {c : Code} {D : va_G} {E : Nat → ClassId} {A : Nat → Prop} {ad sk : Nat → Nat} {Q : xx_S → Prop}   (C0 : gg_C p s m args meth c RX0 cX0_passes 2 none) (hA : xx_A sk A s) :
    ∀ n : Nat, ∀ (x1 : Int32) (σ : xx_S) (H : Heap) (locs : List Loc) (ls : Array Slot), xxw_passes_98 Q n x1 σ → xx_W D E A ad sk σ s H → va_S A s.heap H locs → lv_has ls 2 [(0, .ref (ad 0)), (1, .int x1)] → W p l e xxr_passes s m args below meth c H locs 0 0 (MQ below (va_Qv Q (fun u t => xx_W D E A ad sk u t t.heap) A) args s 0 0 A) (F0 m 98 ls []) := by
  obtain ⟨hx, hb, hml, hown, hts, hr, hlocks⟩ := id C0
  intro n
  induction n with
  | zero =>
    intro x1 σ H locs ls hw hW hS hl
    exact absurd hw (by unfold xxw_passes_98; exact id)
  | succ n ih =>
    intro x1 σ H locs ls hw hW hS hl
    unfold xxw_passes_98 at hw
    refine lv_iload_n hx hb dX0_passes_98 rfl (lv_at hl 1 rfl) ?_
    refine lv_iconst (v := (4 : Int32)) hx hb dX0_passes_99 (by decide) ?_
    refine lv_icmp_ge (tgt := 126) hx hb dX0_passes_100 (by decide) (fun c3 => ?_) (fun c3 => ?_)
    · have hw := hw.1 c3
      refine lv_aload_n hx hb dX0_passes_126 rfl (lv_at hl 0 rfl) ?_
      refine lv_dup hx hb dX0_passes_127 rfl ?_
      refine xx_geti hx hb hts hown hW 2 (by decide) q747 dX0_passes_128 ?_
      refine lv_iconst (v := (1 : Int32)) hx hb dX0_passes_131 (by decide) ?_
      refine lv_iadd hx hb dX0_passes_132 ?_
      refine xx_puti hx hb hts hown hW hS 2 (by decide) q747 rfl rfl rfl dX0_passes_133 (fun H locs hW hS => ?_)
      obtain ⟨σ1, eσ1⟩ : ∃ z, z = xx_s σ 0 2 ((xx_g σ 0 2) + (1 : Int32)) := ⟨_, rfl⟩
      rw [← eσ1] at hW
      have hw := hw σ1 eσ1
      exact gg_vret (xx_mv D E A ad sk) C0 hW hS hw dX0_passes_136
    · have hw := hw.2 c3
      refine lv_aload_n hx hb dX0_passes_103 rfl (lv_at hl 0 rfl) ?_
      refine xx_getr hx hb hts hown hW 3 1 (by decide) q748 dX0_passes_104 ?_
      refine lv_iload_n hx hb dX0_passes_107 rfl (lv_at hl 1 rfl) ?_
      refine lv_dup2_11 hx hb dX0_passes_108 rfl rfl ?_
      obtain ⟨hin, hw⟩ := hw
      refine xx_ald hx hb hW 1 4 (by decide) rfl hin dX0_passes_109 ?_
      refine lv_aload_n hx hb dX0_passes_110 rfl (lv_at hl 0 rfl) ?_
      refine xx_getr hx hb hts hown hW 27 5 (by decide) q777 dX0_passes_111 ?_
      refine lv_iconst (v := (5 : Int32)) hx hb dX0_passes_114 (by decide) ?_
      refine lv_iload_n hx hb dX0_passes_115 rfl (lv_at hl 1 rfl) ?_
      refine lv_iadd hx hb dX0_passes_116 ?_
      obtain ⟨hin, hw⟩ := hw
      refine xx_ald hx hb hW 5 9 (by decide) rfl hin dX0_passes_117 ?_
      refine lv_iadd hx hb dX0_passes_118 ?_
      obtain ⟨hin, hw⟩ := hw
      refine xx_ast hx hb hW hS 1 4 (by decide) rfl hin dX0_passes_119 (fun H locs hW hS => ?_)
      obtain ⟨σ2, eσ2⟩ : ∃ z, z = xx_s σ 1 x1.toNatClampNeg ((xx_g σ 1 x1.toNatClampNeg) + (xx_g σ 5 ((5 : Int32) + x1).toNatClampNeg)) := ⟨_, rfl⟩
      rw [← eσ2] at hW
      have hw := hw σ2 eσ2
      refine lv_iinc (v := (x1 + (1 : Int32))) (lv' := [(1, .int (x1 + (1 : Int32))), (0, .ref (ad 0))]) hx hb dX0_passes_120 hl (k := 1) rfl rfl (by decide) rfl (fun ls hl => ?_)
      refine lv_goto (tgt := 98) hx hb dX0_passes_123 (by decide) ?_
      exact ih (x1 + (1 : Int32)) σ2 _ _ _ hw hW hS (lv_sub hl [1, 0] rfl)
set_option maxHeartbeats 4000000 in
set_option maxRecDepth 100000 in
theorem xxk_passes_67 {p : Program} {l : Launch} {e : Env} {s : State} {m : MethodId} {args : Array Value} {below : List Frame} {meth : Method} {c : Code} {D : va_G} {E : Nat → ClassId} {A : Nat → Prop} {ad sk : Nat → Nat} {Q : xx_S → Prop}   (C0 : gg_C p s m args meth c RX0 cX0_passes 2 none) (hA : xx_A sk A s) :
    ∀ n : Nat, ∀ (x1 : Int32) (σ : xx_S) (H : Heap) (locs : List Loc) (ls : Array Slot), xxw_passes_67 Q n x1 σ → xx_W D E A ad sk σ s H → va_S A s.heap H locs → lv_has ls 2 [(0, .ref (ad 0)), (1, .int x1)] → W p l e xxr_passes s m args below meth c H locs 0 0 (MQ below (va_Qv Q (fun u t => xx_W D E A ad sk u t t.heap) A) args s 0 0 A) (F0 m 67 ls []) := by
  obtain ⟨hx, hb, hml, hown, hts, hr, hlocks⟩ := id C0
  intro n
  induction n with
  | zero =>
    intro x1 σ H locs ls hw hW hS hl
    exact absurd hw (by unfold xxw_passes_67; exact id)
  | succ n ih =>
    intro x1 σ H locs ls hw hW hS hl
    unfold xxw_passes_67 at hw
    refine lv_iload_n hx hb dX0_passes_67 rfl (lv_at hl 1 rfl) ?_
    refine lv_aload_n hx hb dX0_passes_68 rfl (lv_at hl 0 rfl) ?_
    refine xx_geti hx hb hts hown hW 1 (by decide) q745 dX0_passes_69 ?_
    refine lv_icmp_ge (tgt := 96) hx hb dX0_passes_72 (by decide) (fun c7 => ?_) (fun c7 => ?_)
    · have hw := hw.1 c7
      refine lv_iconst (v := (0 : Int32)) hx hb dX0_passes_96 (by decide) ?_
      refine lv_istore_n (lv' := [(1, .int (0 : Int32)), (0, .ref (ad 0))]) hx hb dX0_passes_97 rfl hl (by decide) rfl (fun ls hl => ?_)
      obtain ⟨n9, hw⟩ := hw
      exact xxk_passes_98  C0 hA  n9 (0 : Int32) σ _ _ _ hw hW hS (lv_sub hl [1, 0] rfl)
    · have hw := hw.2 c7
      refine lv_aload_n hx hb dX0_passes_75 rfl (lv_at hl 0 rfl) ?_
      refine xx_getr hx hb hts hown hW 0 43 (by decide) q744 dX0_passes_76 ?_
      refine lv_iload_n hx hb dX0_passes_79 rfl (lv_at hl 1 rfl) ?_
      obtain ⟨hin, y4, hy, hw⟩ := hw
      refine xx_aldF hx hb hW hin hy dX0_passes_80 ?_
      refine lv_aload_n hx hb dX0_passes_81 rfl (lv_at hl 0 rfl) ?_
      refine xx_getr hx hb hts hown hW 27 5 (by decide) q777 dX0_passes_82 ?_
      refine lv_iload_n hx hb dX0_passes_85 rfl (lv_at hl 1 rfl) ?_
      obtain ⟨hin, hw⟩ := hw
      refine xx_ald hx hb hW 5 9 (by decide) rfl hin dX0_passes_86 ?_
      obtain ⟨k5, nk5, ak5, hgl, hw⟩ := hw
      refine xx_pgla hx hb hts hown hW hS hgl q168 (fun _ h9 => h9) dX0_passes_87 (fun H locs hW hS => ?_)
      obtain ⟨σ6, eσ6⟩ : ∃ z, z = xx_ps σ y4 (.inr (k5, [.int nk5, .int (xx_g σ 5 x1.toNatClampNeg)])) := ⟨_, rfl⟩
      rw [← eσ6] at hW
      have hw := hw σ6 eσ6
      refine lv_iinc (v := (x1 + (1 : Int32))) (lv' := [(1, .int (x1 + (1 : Int32))), (0, .ref (ad 0))]) hx hb dX0_passes_90 hl (k := 1) rfl rfl (by decide) rfl (fun ls hl => ?_)
      refine lv_goto (tgt := 67) hx hb dX0_passes_93 (by decide) ?_
      exact ih (x1 + (1 : Int32)) σ6 _ _ _ hw hW hS (lv_sub hl [1, 0] rfl)
set_option maxHeartbeats 4000000 in
set_option maxRecDepth 100000 in
theorem xxk_passes_29 {p : Program} {l : Launch} {e : Env} {s : State} {m : MethodId} {args : Array Value} {below : List Frame} {meth : Method} {c : Code} {D : va_G} {E : Nat → ClassId} {A : Nat → Prop} {ad sk : Nat → Nat} {Q : xx_S → Prop}   (C0 : gg_C p s m args meth c RX0 cX0_passes 2 none) (hA : xx_A sk A s) :
    ∀ n : Nat, ∀ (x1 : Int32) (σ : xx_S) (H : Heap) (locs : List Loc) (ls : Array Slot), xxw_passes_29 Q n x1 σ → xx_W D E A ad sk σ s H → va_S A s.heap H locs → lv_has ls 2 [(0, .ref (ad 0)), (1, .int x1)] → W p l e xxr_passes s m args below meth c H locs 0 0 (MQ below (va_Qv Q (fun u t => xx_W D E A ad sk u t t.heap) A) args s 0 0 A) (F0 m 29 ls []) := by
  obtain ⟨hx, hb, hml, hown, hts, hr, hlocks⟩ := id C0
  intro n
  induction n with
  | zero =>
    intro x1 σ H locs ls hw hW hS hl
    exact absurd hw (by unfold xxw_passes_29; exact id)
  | succ n ih =>
    intro x1 σ H locs ls hw hW hS hl
    unfold xxw_passes_29 at hw
    refine lv_iload_n hx hb dX0_passes_29 rfl (lv_at hl 1 rfl) ?_
    refine lv_iconst (v := (4 : Int32)) hx hb dX0_passes_30 (by decide) ?_
    refine lv_icmp_ge (tgt := 65) hx hb dX0_passes_31 (by decide) (fun c11 => ?_) (fun c11 => ?_)
    · have hw := hw.1 c11
      refine lv_iconst (v := (0 : Int32)) hx hb dX0_passes_65 (by decide) ?_
      refine lv_istore_n (lv' := [(1, .int (0 : Int32)), (0, .ref (ad 0))]) hx hb dX0_passes_66 rfl hl (by decide) rfl (fun ls hl => ?_)
      obtain ⟨n9, hw⟩ := hw
      exact xxk_passes_67  C0 hA  n9 (0 : Int32) σ _ _ _ hw hW hS (lv_sub hl [1, 0] rfl)
    · have hw := hw.2 c11
      refine lv_aload_n hx hb dX0_passes_34 rfl (lv_at hl 0 rfl) ?_
      refine xx_getr hx hb hts hown hW 27 5 (by decide) q777 dX0_passes_35 ?_
      refine lv_iconst (v := (5 : Int32)) hx hb dX0_passes_38 (by decide) ?_
      refine lv_iload_n hx hb dX0_passes_39 rfl (lv_at hl 1 rfl) ?_
      refine lv_iadd hx hb dX0_passes_40 ?_
      refine lv_aload_n hx hb dX0_passes_41 rfl (lv_at hl 0 rfl) ?_
      refine lv_iload_n hx hb dX0_passes_42 rfl (lv_at hl 1 rfl) ?_
      refine xx_VI ⟨hx, hb, hml, hown, hts⟩ hA (xxt_shakesOf l _ _ hw) (cwV 1 hts (lw_V q276 q278 qs7 q103 q279) rfl rfl rfl cd_X0_shakesOf ⟨Nat.le_of_ble_eq_true rfl, Nat.le_of_ble_eq_true rfl⟩) hW (xx_recv hW) hS rfl hl.1 rfl (Nat.le_of_ble_eq_true rfl) dX0_passes_43 (fun r9 σ8 H locs hw hW hS => ?_)
      refine lv_bipush (v := (24 : Int32)) hx hb dX0_passes_46 (by decide) ?_
      refine lv_aload_n hx hb dX0_passes_48 rfl (lv_at hl 0 rfl) ?_
      refine xx_getr hx hb hts hown hW 3 1 (by decide) q748 dX0_passes_49 ?_
      refine lv_iload_n hx hb dX0_passes_52 rfl (lv_at hl 1 rfl) ?_
      obtain ⟨hin, hw⟩ := hw
      refine xx_ald hx hb hW 1 4 (by decide) rfl hin dX0_passes_53 ?_
      refine lv_isub hx hb dX0_passes_54 ?_
      refine va_mmin hx hb (hml.trans hl.1.symm) hown (hts _ q308) (hts _ q309) (hts _ q113) (hts _ q310) (Nat.le_of_ble_eq_true rfl) (Nat.le_of_ble_eq_true rfl) (Nat.zero_le _) (Nat.zero_le _) dX0_passes_55 ?_
      obtain ⟨hin, hw⟩ := hw
      refine xx_ast hx hb hW hS 5 9 (by decide) rfl hin dX0_passes_58 (fun H locs hW hS => ?_)
      obtain ⟨σ10, eσ10⟩ : ∃ z, z = xx_s σ8 5 ((5 : Int32) + x1).toNatClampNeg (if ((24 : Int32) - (xx_g σ8 1 x1.toNatClampNeg)) < r9 then ((24 : Int32) - (xx_g σ8 1 x1.toNatClampNeg)) else r9) := ⟨_, rfl⟩
      rw [← eσ10] at hW
      have hw := hw σ10 eσ10
      refine lv_iinc (v := (x1 + (1 : Int32))) (lv' := [(1, .int (x1 + (1 : Int32))), (0, .ref (ad 0))]) hx hb dX0_passes_59 hl (k := 1) rfl rfl (by decide) rfl (fun ls hl => ?_)
      refine lv_goto (tgt := 29) hx hb dX0_passes_62 (by decide) ?_
      exact ih (x1 + (1 : Int32)) σ10 _ _ _ hw hW hS (lv_sub hl [1, 0] rfl)
set_option maxHeartbeats 4000000 in
set_option maxRecDepth 100000 in
theorem xxk_passes_2 {p : Program} {l : Launch} {e : Env} {s : State} {m : MethodId} {args : Array Value} {below : List Frame} {meth : Method} {c : Code} {D : va_G} {E : Nat → ClassId} {A : Nat → Prop} {ad sk : Nat → Nat} {Q : xx_S → Prop}   (C0 : gg_C p s m args meth c RX0 cX0_passes 2 none) (hA : xx_A sk A s) :
    ∀ n : Nat, ∀ (x1 : Int32) (σ : xx_S) (H : Heap) (locs : List Loc) (ls : Array Slot), xxw_passes_2 Q n x1 σ → xx_W D E A ad sk σ s H → va_S A s.heap H locs → lv_has ls 2 [(0, .ref (ad 0)), (1, .int x1)] → W p l e xxr_passes s m args below meth c H locs 0 0 (MQ below (va_Qv Q (fun u t => xx_W D E A ad sk u t t.heap) A) args s 0 0 A) (F0 m 2 ls []) := by
  obtain ⟨hx, hb, hml, hown, hts, hr, hlocks⟩ := id C0
  intro n
  induction n with
  | zero =>
    intro x1 σ H locs ls hw hW hS hl
    exact absurd hw (by unfold xxw_passes_2; exact id)
  | succ n ih =>
    intro x1 σ H locs ls hw hW hS hl
    unfold xxw_passes_2 at hw
    refine lv_iload_n hx hb dX0_passes_2 rfl (lv_at hl 1 rfl) ?_
    refine lv_aload_n hx hb dX0_passes_3 rfl (lv_at hl 0 rfl) ?_
    refine xx_geti hx hb hts hown hW 1 (by decide) q745 dX0_passes_4 ?_
    refine lv_icmp_ge (tgt := 27) hx hb dX0_passes_7 (by decide) (fun c15 => ?_) (fun c15 => ?_)
    · have hw := hw.1 c15
      refine lv_iconst (v := (0 : Int32)) hx hb dX0_passes_27 (by decide) ?_
      refine lv_istore_n (lv' := [(1, .int (0 : Int32)), (0, .ref (ad 0))]) hx hb dX0_passes_28 rfl hl (by decide) rfl (fun ls hl => ?_)
      obtain ⟨n9, hw⟩ := hw
      exact xxk_passes_29  C0 hA  n9 (0 : Int32) σ _ _ _ hw hW hS (lv_sub hl [1, 0] rfl)
    · have hw := hw.2 c15
      refine lv_aload_n hx hb dX0_passes_10 rfl (lv_at hl 0 rfl) ?_
      refine xx_getr hx hb hts hown hW 27 5 (by decide) q777 dX0_passes_11 ?_
      refine lv_iload_n hx hb dX0_passes_14 rfl (lv_at hl 1 rfl) ?_
      refine lv_aload_n hx hb dX0_passes_15 rfl (lv_at hl 0 rfl) ?_
      refine lv_iload_n hx hb dX0_passes_16 rfl (lv_at hl 1 rfl) ?_
      refine xx_VI ⟨hx, hb, hml, hown, hts⟩ hA (xxt_keepsOf l _ _ hw) (cwV 1 hts (lw_V q341 q343 qs11 q103 q344) rfl rfl rfl cd_X0_keepsOf ⟨Nat.le_of_ble_eq_true rfl, Nat.le_of_ble_eq_true rfl⟩) hW (xx_recv hW) hS rfl hl.1 rfl (Nat.le_of_ble_eq_true rfl) dX0_passes_17 (fun r13 σ12 H locs hw hW hS => ?_)
      obtain ⟨hin, hw⟩ := hw
      refine xx_ast hx hb hW hS 5 9 (by decide) rfl hin dX0_passes_20 (fun H locs hW hS => ?_)
      obtain ⟨σ14, eσ14⟩ : ∃ z, z = xx_s σ12 5 x1.toNatClampNeg r13 := ⟨_, rfl⟩
      rw [← eσ14] at hW
      have hw := hw σ14 eσ14
      refine lv_iinc (v := (x1 + (1 : Int32))) (lv' := [(1, .int (x1 + (1 : Int32))), (0, .ref (ad 0))]) hx hb dX0_passes_21 hl (k := 1) rfl rfl (by decide) rfl (fun ls hl => ?_)
      refine lv_goto (tgt := 2) hx hb dX0_passes_24 (by decide) ?_
      exact ih (x1 + (1 : Int32)) σ14 _ _ _ hw hW hS (lv_sub hl [1, 0] rfl)
set_option maxHeartbeats 4000000 in
set_option maxRecDepth 100000 in
theorem xxt_passes (l : Launch) {D : va_G} {E : Nat → ClassId} {A : Nat → Prop} {ad sk : Nat → Nat}   (σ : xx_S) {Q : xx_S → Prop} (hw : xxw_passes σ Q) :
    Met l yX0_passes (ws_ yX0_passes cX0_passes 2 none) xxr_passes (va_Pc [.ref (ad 0)] (fun U => xx_V D E A ad sk σ U U.heap)) (va_Qv Q (fun u t => xx_W D E A ad sk u t t.heap) A) 0 0 A := by
  refine gg_entry (W0 := fun s H => xx_V D E A ad sk σ s H) (by decide) (Nat.le_of_ble_eq_true rfl) ?_
  intro p e s m args below meth c C0 hV ls hl
  have C0 : gg_C p s m args meth c RX0 cX0_passes 2 none := C0
  obtain ⟨hx, hb, hml, hown, hts, hr, hlocks⟩ := id C0
  have hl : lv_has ls 2 [(0, .ref (ad 0))] := hl
  have hS : va_S A s.heap s.heap [] := va_S.rf
  have hA : xx_A sk A s := hV.2
  have hW : xx_W D E A ad sk σ s s.heap := hV.1
  unfold xxw_passes at hw
  refine lv_iconst (v := (0 : Int32)) hx hb dX0_passes_0 (by decide) ?_
  refine lv_istore_n (lv' := [(1, .int (0 : Int32)), (0, .ref (ad 0))]) hx hb dX0_passes_1 rfl hl (by decide) rfl (fun ls hl => ?_)
  obtain ⟨n9, hw⟩ := hw
  exact xxk_passes_2  C0 hA  n9 (0 : Int32) σ _ _ _ hw hW hS (lv_sub hl [1, 0] rfl)
theorem cd_X0_night : yX0_night.cls = RX0 ∧ yX0_night.cls ≠ "java/lang/invoke/MethodHandle" ∧ yX0_night.cls ≠ "java/lang/invoke/VarHandle" ∧ (parseMethodDescriptor yX0_night.desc).map (fun d => d.parameters.length) = some 0 := by decide +kernel
/-! GleanersForGaps.night()I -/
def xxw_night   (σ : xx_S) (Q : Int32 → xx_S → Prop) : Prop :=
    ((((xx_g σ 0 2) = (999 : Int32)) → Q (-3 : Int32) σ) ∧ (¬ ((xx_g σ 0 2) = (999 : Int32)) → (xxw_passes σ (fun σ1 => (xxw_gapsAll σ1 (fun r3 σ2 => Q r3 σ2))))))
abbrev xxr_night : Room := { frames := 205, cells := 0, slots := 0, locals := 6066 }
set_option maxHeartbeats 4000000 in
set_option maxRecDepth 100000 in
theorem xxt_night (l : Launch) {D : va_G} {E : Nat → ClassId} {A : Nat → Prop} {ad sk : Nat → Nat}   (σ : xx_S) {Q : Int32 → xx_S → Prop} (hw : xxw_night σ Q) :
    Met l yX0_night (ws_ yX0_night cX0_night 1 (some .int)) xxr_night (va_Pc [.ref (ad 0)] (fun U => xx_V D E A ad sk σ U U.heap)) (va_Qi Q (fun u t => xx_W D E A ad sk u t t.heap) A) 0 0 A := by
  refine gg_entry (W0 := fun s H => xx_V D E A ad sk σ s H) (by decide) (Nat.le_of_ble_eq_true rfl) ?_
  intro p e s m args below meth c C0 hV ls hl
  have C0 : gg_C p s m args meth c RX0 cX0_night 1 (some .int) := C0
  obtain ⟨hx, hb, hml, hown, hts, hr, hlocks⟩ := id C0
  have hl : lv_has ls 1 [(0, .ref (ad 0))] := hl
  have hS : va_S A s.heap s.heap [] := va_S.rf
  have hA : xx_A sk A s := hV.2
  have hW : xx_W D E A ad sk σ s s.heap := hV.1
  unfold xxw_night at hw
  refine lv_aload_n hx hb dX0_night_0 rfl (lv_at hl 0 rfl) ?_
  refine xx_geti hx hb hts hown hW 2 (by decide) q747 dX0_night_1 ?_
  refine lv_sipush (v := (999 : Int32)) hx hb dX0_night_4 (by decide) ?_
  refine lv_icmp_ne (tgt := 13) hx hb dX0_night_7 (by decide) (fun c4 => ?_) (fun c4 => ?_)
  · have hw := hw.2 c4
    refine lv_aload_n hx hb dX0_night_13 rfl (lv_at hl 0 rfl) ?_
    refine xx_VV ⟨hx, hb, hml, hown, hts⟩ hA (xxt_passes l _ hw) (cwV 0 hts (lw_V q950 q952 qs38 q103 q953) rfl rfl rfl cd_X0_passes ⟨Nat.le_of_ble_eq_true rfl, Nat.le_of_ble_eq_true rfl⟩) hW (xx_recv hW) hS rfl hl.1 rfl (Nat.le_of_ble_eq_true rfl) dX0_night_14 (fun σ1 H locs hw hW hS => ?_)
    refine lv_aload_n hx hb dX0_night_17 rfl (lv_at hl 0 rfl) ?_
    refine xx_VI ⟨hx, hb, hml, hown, hts⟩ hA (xxt_gapsAll l _ hw) (cwV 0 hts (lw_V q954 q956 qs39 q103 q957) rfl rfl rfl cd_X0_gapsAll ⟨Nat.le_of_ble_eq_true rfl, Nat.le_of_ble_eq_true rfl⟩) hW (xx_recv hW) hS rfl hl.1 rfl (Nat.le_of_ble_eq_true rfl) dX0_night_18 (fun r3 σ2 H locs hw hW hS => ?_)
    exact gg_iret (xx_mv D E A ad sk) C0 hW hS hw dX0_night_21
  · have hw := hw.1 c4
    refine lv_bipush (v := (-3 : Int32)) hx hb dX0_night_10 (by decide) ?_
    exact gg_iret (xx_mv D E A ad sk) C0 hW hS hw dX0_night_12
theorem cd_X0_keeps : yX0_keeps.cls = RX0 ∧ yX0_keeps.cls ≠ "java/lang/invoke/MethodHandle" ∧ yX0_keeps.cls ≠ "java/lang/invoke/VarHandle" ∧ (parseMethodDescriptor yX0_keeps.desc).map (fun d => d.parameters.length) = some 1 := by decide +kernel
/-! GleanersForGaps.keeps(I)V -/
def xxw_keeps_2  (Q : xx_S → Prop)  : Nat → Int32 → Int32 → xx_S → Prop
  | 0, _, _, _ => False
  | n + 1, x1, x2, σ =>
    ((((xx_g σ 0 1) ≤ x2) → vp_in x1 6 ∧ (∀ σ2 : xx_S, σ2 = xx_sr σ (14 + x1.toNatClampNeg) (fun q => if q < 4 then xx_g σ 1 q else xx_g σ (14 + x1.toNatClampNeg) q) → vp_in x1 6 ∧ (∀ σ4 : xx_S, σ4 = xx_sr σ2 (20 + x1.toNatClampNeg) (fun q => if q < 4 then xx_g σ2 2 q else xx_g σ2 (20 + x1.toNatClampNeg) q) → vp_in x1 6 ∧ (∀ σ5 : xx_S, σ5 = xx_s σ4 6 x1.toNatClampNeg (xx_g σ4 0 2) → Q σ5)))) ∧ (¬ ((xx_g σ 0 1) ≤ x2) → vp_in x1 6 ∧ vp_in x2 5 ∧ ∃ y7 : Nat, xx_r σ 43 x2.toNatClampNeg = some y7 ∧ ∃ (k8 : Nat) (nk8 ak8 : Int32), xx_gl σ y7 k8 nk8 ak8 ∧ vp_in x2 5 ∧ (∀ σ9 : xx_S, σ9 = xx_s σ (8 + x1.toNatClampNeg) x2.toNatClampNeg ak8 → xxw_keeps_2 Q n x1 (x2 + (1 : Int32)) σ9)))
def xxw_keeps  (a1 : Int32) (σ : xx_S) (Q : xx_S → Prop) : Prop :=
    ∃ k9, xxw_keeps_2 Q k9 a1 (0 : Int32) σ
abbrev xxr_keeps : Room := { frames := 1, cells := 0, slots := 0, locals := 64 }
set_option maxHeartbeats 4000000 in
set_option maxRecDepth 100000 in
theorem xxk_keeps_2 {p : Program} {l : Launch} {e : Env} {s : State} {m : MethodId} {args : Array Value} {below : List Frame} {meth : Method} {c : Code} {D : va_G} {E : Nat → ClassId} {A : Nat → Prop} {ad sk : Nat → Nat} {Q : xx_S → Prop}   (C0 : gg_C p s m args meth c RX0 cX0_keeps 3 none) (hA : xx_A sk A s) :
    ∀ n : Nat, ∀ (x1 : Int32) (x2 : Int32) (σ : xx_S) (H : Heap) (locs : List Loc) (ls : Array Slot), xxw_keeps_2 Q n x1 x2 σ → xx_W D E A ad sk σ s H → va_S A s.heap H locs → lv_has ls 3 [(0, .ref (ad 0)), (1, .int x1), (2, .int x2)] → W p l e xxr_keeps s m args below meth c H locs 0 0 (MQ below (va_Qv Q (fun u t => xx_W D E A ad sk u t t.heap) A) args s 0 0 A) (F0 m 2 ls []) := by
  obtain ⟨hx, hb, hml, hown, hts, hr, hlocks⟩ := id C0
  intro n
  induction n with
  | zero =>
    intro x1 x2 σ H locs ls hw hW hS hl
    exact absurd hw (by unfold xxw_keeps_2; exact id)
  | succ n ih =>
    intro x1 x2 σ H locs ls hw hW hS hl
    unfold xxw_keeps_2 at hw
    refine lv_iload_n hx hb dX0_keeps_2 rfl (lv_at hl 2 rfl) ?_
    refine lv_aload_n hx hb dX0_keeps_3 rfl (lv_at hl 0 rfl) ?_
    refine xx_geti hx hb hts hown hW 1 (by decide) q745 dX0_keeps_4 ?_
    refine lv_icmp_ge (tgt := 33) hx hb dX0_keeps_7 (by decide) (fun c10 => ?_) (fun c10 => ?_)
    · have hw := hw.1 c10
      refine lv_aload_n hx hb dX0_keeps_33 rfl (lv_at hl 0 rfl) ?_
      refine xx_getr hx hb hts hown hW 3 1 (by decide) q748 dX0_keeps_34 ?_
      refine lv_iconst (v := (0 : Int32)) hx hb dX0_keeps_37 (by decide) ?_
      refine lv_aload_n hx hb dX0_keeps_38 rfl (lv_at hl 0 rfl) ?_
      refine xx_getr hx hb hts hown hW 29 32 (by decide) q779 dX0_keeps_39 ?_
      refine lv_iload_n hx hb dX0_keeps_42 rfl (lv_at hl 1 rfl) ?_
      obtain ⟨hin1, hw⟩ := hw
      refine xx_ald2 hx hb hW 32 14 6 (by decide) rfl rfl hin1 dX0_keeps_43 ?_
      refine lv_iconst (v := (0 : Int32)) hx hb dX0_keeps_44 (by decide) ?_
      refine lv_iconst (v := (4 : Int32)) hx hb dX0_keeps_45 (by decide) ?_
      refine xx_copy4 hx hb (hml.trans hl.1.symm) hown (hts _ q970) (hts _ q972) (hts _ q971) (hts _ q128) hW hS 1 (14 + x1.toNatClampNeg) (by decide) rfl (xx_b14 hin1) (xx_l14 hin1) (Nat.le_of_ble_eq_true rfl) (Nat.le_of_ble_eq_true rfl) dX0_keeps_46 (fun H locs hW hS => ?_)
      obtain ⟨σ2, eσ2⟩ : ∃ z, z = xx_sr σ (14 + x1.toNatClampNeg) (fun q => if q < 4 then xx_g σ 1 q else xx_g σ (14 + x1.toNatClampNeg) q) := ⟨_, rfl⟩
      rw [← eσ2] at hW
      have hw := hw σ2 eσ2
      refine lv_aload_n hx hb dX0_keeps_49 rfl (lv_at hl 0 rfl) ?_
      refine xx_getr hx hb hts hown hW 4 2 (by decide) q749 dX0_keeps_50 ?_
      refine lv_iconst (v := (0 : Int32)) hx hb dX0_keeps_53 (by decide) ?_
      refine lv_aload_n hx hb dX0_keeps_54 rfl (lv_at hl 0 rfl) ?_
      refine xx_getr hx hb hts hown hW 30 33 (by decide) q780 dX0_keeps_55 ?_
      refine lv_iload_n hx hb dX0_keeps_58 rfl (lv_at hl 1 rfl) ?_
      obtain ⟨hin3, hw⟩ := hw
      refine xx_ald2 hx hb hW 33 20 6 (by decide) rfl rfl hin3 dX0_keeps_59 ?_
      refine lv_iconst (v := (0 : Int32)) hx hb dX0_keeps_60 (by decide) ?_
      refine lv_iconst (v := (4 : Int32)) hx hb dX0_keeps_61 (by decide) ?_
      refine xx_copy4 hx hb (hml.trans hl.1.symm) hown (hts _ q970) (hts _ q972) (hts _ q971) (hts _ q128) hW hS 2 (20 + x1.toNatClampNeg) (by decide) rfl (xx_b20 hin3) (xx_l20 hin3) (Nat.le_of_ble_eq_true rfl) (Nat.le_of_ble_eq_true rfl) dX0_keeps_62 (fun H locs hW hS => ?_)
      obtain ⟨σ4, eσ4⟩ : ∃ z, z = xx_sr σ2 (20 + x1.toNatClampNeg) (fun q => if q < 4 then xx_g σ2 2 q else xx_g σ2 (20 + x1.toNatClampNeg) q) := ⟨_, rfl⟩
      rw [← eσ4] at hW
      have hw := hw σ4 eσ4
      refine lv_aload_n hx hb dX0_keeps_65 rfl (lv_at hl 0 rfl) ?_
      refine xx_getr hx hb hts hown hW 31 6 (by decide) q781 dX0_keeps_66 ?_
      refine lv_iload_n hx hb dX0_keeps_69 rfl (lv_at hl 1 rfl) ?_
      refine lv_aload_n hx hb dX0_keeps_70 rfl (lv_at hl 0 rfl) ?_
      refine xx_geti hx hb hts hown hW 2 (by decide) q747 dX0_keeps_71 ?_
      obtain ⟨hin, hw⟩ := hw
      refine xx_ast hx hb hW hS 6 6 (by decide) rfl hin dX0_keeps_74 (fun H locs hW hS => ?_)
      obtain ⟨σ5, eσ5⟩ : ∃ z, z = xx_s σ4 6 x1.toNatClampNeg (xx_g σ4 0 2) := ⟨_, rfl⟩
      rw [← eσ5] at hW
      have hw := hw σ5 eσ5
      exact gg_vret (xx_mv D E A ad sk) C0 hW hS hw dX0_keeps_75
    · have hw := hw.2 c10
      refine lv_aload_n hx hb dX0_keeps_10 rfl (lv_at hl 0 rfl) ?_
      refine xx_getr hx hb hts hown hW 28 31 (by decide) q778 dX0_keeps_11 ?_
      refine lv_iload_n hx hb dX0_keeps_14 rfl (lv_at hl 1 rfl) ?_
      obtain ⟨hin6, hw⟩ := hw
      refine xx_ald2 hx hb hW 31 8 6 (by decide) rfl rfl hin6 dX0_keeps_15 ?_
      refine lv_iload_n hx hb dX0_keeps_16 rfl (lv_at hl 2 rfl) ?_
      refine lv_aload_n hx hb dX0_keeps_17 rfl (lv_at hl 0 rfl) ?_
      refine xx_getr hx hb hts hown hW 0 43 (by decide) q744 dX0_keeps_18 ?_
      refine lv_iload_n hx hb dX0_keeps_21 rfl (lv_at hl 2 rfl) ?_
      obtain ⟨hin, y7, hy, hw⟩ := hw
      refine xx_aldF hx hb hW hin hy dX0_keeps_22 ?_
      obtain ⟨k8, nk8, ak8, hgl, hw⟩ := hw
      refine xx_gla hx hb hts hown hW hgl q168 (fun _ h9 => h9) dX0_keeps_23 ?_
      obtain ⟨hin, hw⟩ := hw
      refine xx_ast hx hb hW hS (8 + x1.toNatClampNeg) 5 (xx_b8 hin6) (xx_l8 hin6) hin dX0_keeps_26 (fun H locs hW hS => ?_)
      obtain ⟨σ9, eσ9⟩ : ∃ z, z = xx_s σ (8 + x1.toNatClampNeg) x2.toNatClampNeg ak8 := ⟨_, rfl⟩
      rw [← eσ9] at hW
      have hw := hw σ9 eσ9
      refine lv_iinc (v := (x2 + (1 : Int32))) (lv' := [(2, .int (x2 + (1 : Int32))), (0, .ref (ad 0)), (1, .int x1)]) hx hb dX0_keeps_27 hl (k := 2) rfl rfl (by decide) rfl (fun ls hl => ?_)
      refine lv_goto (tgt := 2) hx hb dX0_keeps_30 (by decide) ?_
      exact ih x1 (x2 + (1 : Int32)) σ9 _ _ _ hw hW hS (lv_sub hl [1, 2, 0] rfl)
set_option maxHeartbeats 4000000 in
set_option maxRecDepth 100000 in
theorem xxt_keeps (l : Launch) {D : va_G} {E : Nat → ClassId} {A : Nat → Prop} {ad sk : Nat → Nat}  (a1 : Int32) (σ : xx_S) {Q : xx_S → Prop} (hw : xxw_keeps a1 σ Q) :
    Met l yX0_keeps (ws_ yX0_keeps cX0_keeps 3 none) xxr_keeps (va_Pc [.ref (ad 0), .int a1] (fun U => xx_V D E A ad sk σ U U.heap)) (va_Qv Q (fun u t => xx_W D E A ad sk u t t.heap) A) 0 0 A := by
  refine gg_entry (W0 := fun s H => xx_V D E A ad sk σ s H) (by decide) (Nat.le_of_ble_eq_true rfl) ?_
  intro p e s m args below meth c C0 hV ls hl
  have C0 : gg_C p s m args meth c RX0 cX0_keeps 3 none := C0
  obtain ⟨hx, hb, hml, hown, hts, hr, hlocks⟩ := id C0
  have hl : lv_has ls 3 [(0, .ref (ad 0)), (1, .int a1)] := hl
  have hS : va_S A s.heap s.heap [] := va_S.rf
  have hA : xx_A sk A s := hV.2
  have hW : xx_W D E A ad sk σ s s.heap := hV.1
  unfold xxw_keeps at hw
  refine lv_iconst (v := (0 : Int32)) hx hb dX0_keeps_0 (by decide) ?_
  refine lv_istore_n (lv' := [(2, .int (0 : Int32)), (0, .ref (ad 0)), (1, .int a1)]) hx hb dX0_keeps_1 rfl hl (by decide) rfl (fun ls hl => ?_)
  obtain ⟨n9, hw⟩ := hw
  exact xxk_keeps_2  C0 hA  n9 a1 (0 : Int32) σ _ _ _ hw hW hS (lv_sub hl [1, 2, 0] rfl)
theorem cd_X0_laysBack : yX0_laysBack.cls = RX0 ∧ yX0_laysBack.cls ≠ "java/lang/invoke/MethodHandle" ∧ yX0_laysBack.cls ≠ "java/lang/invoke/VarHandle" ∧ (parseMethodDescriptor yX0_laysBack.desc).map (fun d => d.parameters.length) = some 1 := by decide +kernel
/-! GleanersForGaps.laysBack(I)V -/
def xxw_laysBack_2  (Q : xx_S → Prop)  : Nat → Int32 → Int32 → xx_S → Prop
  | 0, _, _, _ => False
  | n + 1, x1, x2, σ =>
    ((((xx_g σ 0 1) ≤ x2) → vp_in x1 6 ∧ (∀ σ2 : xx_S, σ2 = xx_sr σ 1 (fun q => if q < 4 then xx_g σ (14 + x1.toNatClampNeg) q else xx_g σ 1 q) → vp_in x1 6 ∧ (∀ σ4 : xx_S, σ4 = xx_sr σ2 2 (fun q => if q < 4 then xx_g σ2 (20 + x1.toNatClampNeg) q else xx_g σ2 2 q) → vp_in x1 6 ∧ (∀ σ5 : xx_S, σ5 = xx_s σ4 0 2 (xx_g σ4 6 x1.toNatClampNeg) → Q σ5)))) ∧ (¬ ((xx_g σ 0 1) ≤ x2) → vp_in x2 5 ∧ ∃ y6 : Nat, xx_r σ 43 x2.toNatClampNeg = some y6 ∧ vp_in x1 6 ∧ vp_in x2 5 ∧ ∃ (k8 : Nat) (nk8 ak8 : Int32), xx_gl σ y6 k8 nk8 ak8 ∧ (∀ σ9 : xx_S, σ9 = xx_ps σ y6 (.inr (k8, [.int nk8, .int (xx_g σ (8 + x1.toNatClampNeg) x2.toNatClampNeg)])) → xxw_laysBack_2 Q n x1 (x2 + (1 : Int32)) σ9)))
def xxw_laysBack  (a1 : Int32) (σ : xx_S) (Q : xx_S → Prop) : Prop :=
    ∃ k9, xxw_laysBack_2 Q k9 a1 (0 : Int32) σ
abbrev xxr_laysBack : Room := { frames := 1, cells := 0, slots := 0, locals := 64 }
set_option maxHeartbeats 4000000 in
set_option maxRecDepth 100000 in
theorem xxk_laysBack_2 {p : Program} {l : Launch} {e : Env} {s : State} {m : MethodId} {args : Array Value} {below : List Frame} {meth : Method} {c : Code} {D : va_G} {E : Nat → ClassId} {A : Nat → Prop} {ad sk : Nat → Nat} {Q : xx_S → Prop}   (C0 : gg_C p s m args meth c RX0 cX0_laysBack 3 none) (hA : xx_A sk A s) :
    ∀ n : Nat, ∀ (x1 : Int32) (x2 : Int32) (σ : xx_S) (H : Heap) (locs : List Loc) (ls : Array Slot), xxw_laysBack_2 Q n x1 x2 σ → xx_W D E A ad sk σ s H → va_S A s.heap H locs → lv_has ls 3 [(0, .ref (ad 0)), (1, .int x1), (2, .int x2)] → W p l e xxr_laysBack s m args below meth c H locs 0 0 (MQ below (va_Qv Q (fun u t => xx_W D E A ad sk u t t.heap) A) args s 0 0 A) (F0 m 2 ls []) := by
  obtain ⟨hx, hb, hml, hown, hts, hr, hlocks⟩ := id C0
  intro n
  induction n with
  | zero =>
    intro x1 x2 σ H locs ls hw hW hS hl
    exact absurd hw (by unfold xxw_laysBack_2; exact id)
  | succ n ih =>
    intro x1 x2 σ H locs ls hw hW hS hl
    unfold xxw_laysBack_2 at hw
    refine lv_iload_n hx hb dX0_laysBack_2 rfl (lv_at hl 2 rfl) ?_
    refine lv_aload_n hx hb dX0_laysBack_3 rfl (lv_at hl 0 rfl) ?_
    refine xx_geti hx hb hts hown hW 1 (by decide) q745 dX0_laysBack_4 ?_
    refine lv_icmp_ge (tgt := 33) hx hb dX0_laysBack_7 (by decide) (fun c10 => ?_) (fun c10 => ?_)
    · have hw := hw.1 c10
      refine lv_aload_n hx hb dX0_laysBack_33 rfl (lv_at hl 0 rfl) ?_
      refine xx_getr hx hb hts hown hW 29 32 (by decide) q779 dX0_laysBack_34 ?_
      refine lv_iload_n hx hb dX0_laysBack_37 rfl (lv_at hl 1 rfl) ?_
      obtain ⟨hin1, hw⟩ := hw
      refine xx_ald2 hx hb hW 32 14 6 (by decide) rfl rfl hin1 dX0_laysBack_38 ?_
      refine lv_iconst (v := (0 : Int32)) hx hb dX0_laysBack_39 (by decide) ?_
      refine lv_aload_n hx hb dX0_laysBack_40 rfl (lv_at hl 0 rfl) ?_
      refine xx_getr hx hb hts hown hW 3 1 (by decide) q748 dX0_laysBack_41 ?_
      refine lv_iconst (v := (0 : Int32)) hx hb dX0_laysBack_44 (by decide) ?_
      refine lv_iconst (v := (4 : Int32)) hx hb dX0_laysBack_45 (by decide) ?_
      refine xx_copy4 hx hb (hml.trans hl.1.symm) hown (hts _ q970) (hts _ q972) (hts _ q971) (hts _ q128) hW hS (14 + x1.toNatClampNeg) 1 (xx_b14 hin1) (xx_l14 hin1) (by decide) rfl (Nat.le_of_ble_eq_true rfl) (Nat.le_of_ble_eq_true rfl) dX0_laysBack_46 (fun H locs hW hS => ?_)
      obtain ⟨σ2, eσ2⟩ : ∃ z, z = xx_sr σ 1 (fun q => if q < 4 then xx_g σ (14 + x1.toNatClampNeg) q else xx_g σ 1 q) := ⟨_, rfl⟩
      rw [← eσ2] at hW
      have hw := hw σ2 eσ2
      refine lv_aload_n hx hb dX0_laysBack_49 rfl (lv_at hl 0 rfl) ?_
      refine xx_getr hx hb hts hown hW 30 33 (by decide) q780 dX0_laysBack_50 ?_
      refine lv_iload_n hx hb dX0_laysBack_53 rfl (lv_at hl 1 rfl) ?_
      obtain ⟨hin3, hw⟩ := hw
      refine xx_ald2 hx hb hW 33 20 6 (by decide) rfl rfl hin3 dX0_laysBack_54 ?_
      refine lv_iconst (v := (0 : Int32)) hx hb dX0_laysBack_55 (by decide) ?_
      refine lv_aload_n hx hb dX0_laysBack_56 rfl (lv_at hl 0 rfl) ?_
      refine xx_getr hx hb hts hown hW 4 2 (by decide) q749 dX0_laysBack_57 ?_
      refine lv_iconst (v := (0 : Int32)) hx hb dX0_laysBack_60 (by decide) ?_
      refine lv_iconst (v := (4 : Int32)) hx hb dX0_laysBack_61 (by decide) ?_
      refine xx_copy4 hx hb (hml.trans hl.1.symm) hown (hts _ q970) (hts _ q972) (hts _ q971) (hts _ q128) hW hS (20 + x1.toNatClampNeg) 2 (xx_b20 hin3) (xx_l20 hin3) (by decide) rfl (Nat.le_of_ble_eq_true rfl) (Nat.le_of_ble_eq_true rfl) dX0_laysBack_62 (fun H locs hW hS => ?_)
      obtain ⟨σ4, eσ4⟩ : ∃ z, z = xx_sr σ2 2 (fun q => if q < 4 then xx_g σ2 (20 + x1.toNatClampNeg) q else xx_g σ2 2 q) := ⟨_, rfl⟩
      rw [← eσ4] at hW
      have hw := hw σ4 eσ4
      refine lv_aload_n hx hb dX0_laysBack_65 rfl (lv_at hl 0 rfl) ?_
      refine lv_aload_n hx hb dX0_laysBack_66 rfl (lv_at hl 0 rfl) ?_
      refine xx_getr hx hb hts hown hW 31 6 (by decide) q781 dX0_laysBack_67 ?_
      refine lv_iload_n hx hb dX0_laysBack_70 rfl (lv_at hl 1 rfl) ?_
      obtain ⟨hin, hw⟩ := hw
      refine xx_ald hx hb hW 6 6 (by decide) rfl hin dX0_laysBack_71 ?_
      refine xx_puti hx hb hts hown hW hS 2 (by decide) q747 rfl rfl rfl dX0_laysBack_72 (fun H locs hW hS => ?_)
      obtain ⟨σ5, eσ5⟩ : ∃ z, z = xx_s σ4 0 2 (xx_g σ4 6 x1.toNatClampNeg) := ⟨_, rfl⟩
      rw [← eσ5] at hW
      have hw := hw σ5 eσ5
      exact gg_vret (xx_mv D E A ad sk) C0 hW hS hw dX0_laysBack_75
    · have hw := hw.2 c10
      refine lv_aload_n hx hb dX0_laysBack_10 rfl (lv_at hl 0 rfl) ?_
      refine xx_getr hx hb hts hown hW 0 43 (by decide) q744 dX0_laysBack_11 ?_
      refine lv_iload_n hx hb dX0_laysBack_14 rfl (lv_at hl 2 rfl) ?_
      obtain ⟨hin, y6, hy, hw⟩ := hw
      refine xx_aldF hx hb hW hin hy dX0_laysBack_15 ?_
      refine lv_aload_n hx hb dX0_laysBack_16 rfl (lv_at hl 0 rfl) ?_
      refine xx_getr hx hb hts hown hW 28 31 (by decide) q778 dX0_laysBack_17 ?_
      refine lv_iload_n hx hb dX0_laysBack_20 rfl (lv_at hl 1 rfl) ?_
      obtain ⟨hin7, hw⟩ := hw
      refine xx_ald2 hx hb hW 31 8 6 (by decide) rfl rfl hin7 dX0_laysBack_21 ?_
      refine lv_iload_n hx hb dX0_laysBack_22 rfl (lv_at hl 2 rfl) ?_
      obtain ⟨hin, hw⟩ := hw
      refine xx_ald hx hb hW (8 + x1.toNatClampNeg) 5 (xx_b8 hin7) (xx_l8 hin7) hin dX0_laysBack_23 ?_
      obtain ⟨k8, nk8, ak8, hgl, hw⟩ := hw
      refine xx_pgla hx hb hts hown hW hS hgl q168 (fun _ h9 => h9) dX0_laysBack_24 (fun H locs hW hS => ?_)
      obtain ⟨σ9, eσ9⟩ : ∃ z, z = xx_ps σ y6 (.inr (k8, [.int nk8, .int (xx_g σ (8 + x1.toNatClampNeg) x2.toNatClampNeg)])) := ⟨_, rfl⟩
      rw [← eσ9] at hW
      have hw := hw σ9 eσ9
      refine lv_iinc (v := (x2 + (1 : Int32))) (lv' := [(2, .int (x2 + (1 : Int32))), (0, .ref (ad 0)), (1, .int x1)]) hx hb dX0_laysBack_27 hl (k := 2) rfl rfl (by decide) rfl (fun ls hl => ?_)
      refine lv_goto (tgt := 2) hx hb dX0_laysBack_30 (by decide) ?_
      exact ih x1 (x2 + (1 : Int32)) σ9 _ _ _ hw hW hS (lv_sub hl [1, 2, 0] rfl)
set_option maxHeartbeats 4000000 in
set_option maxRecDepth 100000 in
theorem xxt_laysBack (l : Launch) {D : va_G} {E : Nat → ClassId} {A : Nat → Prop} {ad sk : Nat → Nat}  (a1 : Int32) (σ : xx_S) {Q : xx_S → Prop} (hw : xxw_laysBack a1 σ Q) :
    Met l yX0_laysBack (ws_ yX0_laysBack cX0_laysBack 3 none) xxr_laysBack (va_Pc [.ref (ad 0), .int a1] (fun U => xx_V D E A ad sk σ U U.heap)) (va_Qv Q (fun u t => xx_W D E A ad sk u t t.heap) A) 0 0 A := by
  refine gg_entry (W0 := fun s H => xx_V D E A ad sk σ s H) (by decide) (Nat.le_of_ble_eq_true rfl) ?_
  intro p e s m args below meth c C0 hV ls hl
  have C0 : gg_C p s m args meth c RX0 cX0_laysBack 3 none := C0
  obtain ⟨hx, hb, hml, hown, hts, hr, hlocks⟩ := id C0
  have hl : lv_has ls 3 [(0, .ref (ad 0)), (1, .int a1)] := hl
  have hS : va_S A s.heap s.heap [] := va_S.rf
  have hA : xx_A sk A s := hV.2
  have hW : xx_W D E A ad sk σ s s.heap := hV.1
  unfold xxw_laysBack at hw
  refine lv_iconst (v := (0 : Int32)) hx hb dX0_laysBack_0 (by decide) ?_
  refine lv_istore_n (lv' := [(2, .int (0 : Int32)), (0, .ref (ad 0)), (1, .int a1)]) hx hb dX0_laysBack_1 rfl hl (by decide) rfl (fun ls hl => ?_)
  obtain ⟨n9, hw⟩ := hw
  exact xxk_laysBack_2  C0 hA  n9 a1 (0 : Int32) σ _ _ _ hw hW hS (lv_sub hl [1, 2, 0] rfl)
