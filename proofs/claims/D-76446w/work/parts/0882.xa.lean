theorem cd_X9_init : yX9_init.cls = RX9 ∧ yX9_init.cls ≠ "java/lang/invoke/MethodHandle" ∧ yX9_init.cls ≠ "java/lang/invoke/VarHandle" ∧ (parseMethodDescriptor yX9_init.desc).map (fun d => d.parameters.length) = some 1 := by decide +kernel
/-! GleanersForGaps$Gleaner.<init>(I)V -/
def xxw_G9_init (y : Nat) (a1 : Int32) (σ : xx_S) (Q : xx_S → Prop) : Prop :=
    ∃ (k1 : Nat) (nk1 ak1 : Int32), xx_gl σ y k1 nk1 ak1 ∧ (∀ σ2 : xx_S, σ2 = xx_ps σ y (.inr (k1, [.int a1, .int ak1])) → Q σ2)
abbrev xxr_G9_init : Room := { frames := 1, cells := 0, slots := 0, locals := 20 }
set_option maxHeartbeats 4000000 in
set_option maxRecDepth 100000 in
theorem xxt_G9_init (l : Launch) {D : va_G} {E : Nat → ClassId} {A : Nat → Prop} {ad sk : Nat → Nat} {y : Nat}  (a1 : Int32) (σ : xx_S) {Q : xx_S → Prop} (hw : xxw_G9_init y a1 σ Q) :
    Met l yX9_init (ws_ yX9_init cX9_init 2 none) xxr_G9_init (va_Pc [.ref y, .int a1] (fun U => xx_V D E A ad sk σ U U.heap)) (va_Qv Q (fun u t => xx_W D E A ad sk u t t.heap) A) 0 0 A := by
  refine gg_entry (W0 := fun s H => xx_V D E A ad sk σ s H) (by decide) (Nat.le_of_ble_eq_true rfl) ?_
  intro p e s m args below meth c C0 hV ls hl
  have C0 : gg_C p s m args meth c RX9 cX9_init 2 none := C0
  obtain ⟨hx, hb, hml, hown, hts, hr, hlocks⟩ := id C0
  have hl : lv_has ls 2 [(0, .ref y), (1, .int a1)] := hl
  have hS : va_S A s.heap s.heap [] := va_S.rf
  have hA : xx_A sk A s := hV.2
  have hW : xx_W D E A ad sk σ s s.heap := hV.1
  unfold xxw_G9_init at hw
  refine lv_aload_n hx hb dX9_init_0 rfl (lv_at hl 0 rfl) ?_
  refine xx_oinit hx hb hl.1 hml hown hts q154 q155 q156 ⟨Nat.le_of_ble_eq_true rfl, Nat.le_of_ble_eq_true rfl⟩ (Nat.le_of_ble_eq_true rfl) dX9_init_1 ?_
  refine lv_aload_n hx hb dX9_init_4 rfl (lv_at hl 0 rfl) ?_
  refine lv_iload_n hx hb dX9_init_5 rfl (lv_at hl 1 rfl) ?_
  obtain ⟨k1, nk1, ak1, hgl, hw⟩ := hw
  refine xx_pgln hx hb hts hown hW hS hgl q157 (fun _ h9 => h9) dX9_init_6 (fun H locs hW hS => ?_)
  obtain ⟨σ2, eσ2⟩ : ∃ z, z = xx_ps σ y (.inr (k1, [.int a1, .int ak1])) := ⟨_, rfl⟩
  rw [← eσ2] at hW
  have hw := hw σ2 eσ2
  exact gg_vret (xx_mv D E A ad sk) C0 hW hS hw dX9_init_9
theorem cd_X10_init : yX10_init.cls = RX10 ∧ yX10_init.cls ≠ "java/lang/invoke/MethodHandle" ∧ yX10_init.cls ≠ "java/lang/invoke/VarHandle" ∧ (parseMethodDescriptor yX10_init.desc).map (fun d => d.parameters.length) = some 1 := by decide +kernel
/-! GleanersForGaps$Widow.<init>(I)V -/
def xxw_G10_init (y : Nat) (a1 : Int32) (σ : xx_S) (Q : xx_S → Prop) : Prop :=
    (xxw_G9_init y a1 σ (fun σ1 => Q σ1))
abbrev xxr_G10_init : Room := { frames := 2, cells := 0, slots := 0, locals := 41 }
set_option maxHeartbeats 4000000 in
set_option maxRecDepth 100000 in
theorem xxt_G10_init (l : Launch) {D : va_G} {E : Nat → ClassId} {A : Nat → Prop} {ad sk : Nat → Nat} {y : Nat}  (a1 : Int32) (σ : xx_S) {Q : xx_S → Prop} (hw : xxw_G10_init y a1 σ Q) :
    Met l yX10_init (ws_ yX10_init cX10_init 2 none) xxr_G10_init (va_Pc [.ref y, .int a1] (fun U => xx_V D E A ad sk σ U U.heap)) (va_Qv Q (fun u t => xx_W D E A ad sk u t t.heap) A) 0 0 A := by
  refine gg_entry (W0 := fun s H => xx_V D E A ad sk σ s H) (by decide) (Nat.le_of_ble_eq_true rfl) ?_
  intro p e s m args below meth c C0 hV ls hl
  have C0 : gg_C p s m args meth c RX10 cX10_init 2 none := C0
  obtain ⟨hx, hb, hml, hown, hts, hr, hlocks⟩ := id C0
  have hl : lv_has ls 2 [(0, .ref y), (1, .int a1)] := hl
  have hS : va_S A s.heap s.heap [] := va_S.rf
  have hA : xx_A sk A s := hV.2
  have hW : xx_W D E A ad sk σ s s.heap := hV.1
  unfold xxw_G10_init at hw
  refine lv_aload_n hx hb dX10_init_0 rfl (lv_at hl 0 rfl) ?_
  refine lv_iload_n hx hb dX10_init_1 rfl (lv_at hl 1 rfl) ?_
  refine xx_aI (k := 0) (n1 := 0) ⟨hx, hb, hml, hown, hts⟩ hA (xxt_G9_init l _ _ hw) (cwI 1 hts (lw_meth q153) rfl rfl rfl (hts _ q122) (hts _ q151) (hts _ q152) rfl cd_X9_init.2 ⟨Nat.le_of_ble_eq_true rfl, Nat.le_of_ble_eq_true rfl⟩) hW hS rfl hl.1 rfl (Nat.le_of_ble_eq_true rfl) dX10_init_2 ⟨Nat.zero_le _, Nat.zero_le _⟩ (fun σ1 H locs hw hW hS => ?_)
  exact gg_vret (xx_mv D E A ad sk) C0 hW hS hw dX10_init_5
theorem cd_X11_init : yX11_init.cls = RX11 ∧ yX11_init.cls ≠ "java/lang/invoke/MethodHandle" ∧ yX11_init.cls ≠ "java/lang/invoke/VarHandle" ∧ (parseMethodDescriptor yX11_init.desc).map (fun d => d.parameters.length) = some 1 := by decide +kernel
/-! GleanersForGaps$Rich.<init>(I)V -/
def xxw_G11_init (y : Nat) (a1 : Int32) (σ : xx_S) (Q : xx_S → Prop) : Prop :=
    (xxw_G9_init y a1 σ (fun σ1 => Q σ1))
abbrev xxr_G11_init : Room := { frames := 2, cells := 0, slots := 0, locals := 41 }
set_option maxHeartbeats 4000000 in
set_option maxRecDepth 100000 in
theorem xxt_G11_init (l : Launch) {D : va_G} {E : Nat → ClassId} {A : Nat → Prop} {ad sk : Nat → Nat} {y : Nat}  (a1 : Int32) (σ : xx_S) {Q : xx_S → Prop} (hw : xxw_G11_init y a1 σ Q) :
    Met l yX11_init (ws_ yX11_init cX11_init 2 none) xxr_G11_init (va_Pc [.ref y, .int a1] (fun U => xx_V D E A ad sk σ U U.heap)) (va_Qv Q (fun u t => xx_W D E A ad sk u t t.heap) A) 0 0 A := by
  refine gg_entry (W0 := fun s H => xx_V D E A ad sk σ s H) (by decide) (Nat.le_of_ble_eq_true rfl) ?_
  intro p e s m args below meth c C0 hV ls hl
  have C0 : gg_C p s m args meth c RX11 cX11_init 2 none := C0
  obtain ⟨hx, hb, hml, hown, hts, hr, hlocks⟩ := id C0
  have hl : lv_has ls 2 [(0, .ref y), (1, .int a1)] := hl
  have hS : va_S A s.heap s.heap [] := va_S.rf
  have hA : xx_A sk A s := hV.2
  have hW : xx_W D E A ad sk σ s s.heap := hV.1
  unfold xxw_G11_init at hw
  refine lv_aload_n hx hb dX11_init_0 rfl (lv_at hl 0 rfl) ?_
  refine lv_iload_n hx hb dX11_init_1 rfl (lv_at hl 1 rfl) ?_
  refine xx_aI (k := 0) (n1 := 0) ⟨hx, hb, hml, hown, hts⟩ hA (xxt_G9_init l _ _ hw) (cwI 1 hts (lw_meth q153) rfl rfl rfl (hts _ q122) (hts _ q179) (hts _ q152) rfl cd_X9_init.2 ⟨Nat.le_of_ble_eq_true rfl, Nat.le_of_ble_eq_true rfl⟩) hW hS rfl hl.1 rfl (Nat.le_of_ble_eq_true rfl) dX11_init_2 ⟨Nat.zero_le _, Nat.zero_le _⟩ (fun σ1 H locs hw hW hS => ?_)
  exact gg_vret (xx_mv D E A ad sk) C0 hW hS hw dX11_init_5
theorem cd_X12_init : yX12_init.cls = RX12 ∧ yX12_init.cls ≠ "java/lang/invoke/MethodHandle" ∧ yX12_init.cls ≠ "java/lang/invoke/VarHandle" ∧ (parseMethodDescriptor yX12_init.desc).map (fun d => d.parameters.length) = some 1 := by decide +kernel
/-! GleanersForGaps$Lark.<init>(I)V -/
def xxw_G12_init (y : Nat) (a1 : Int32) (σ : xx_S) (Q : xx_S → Prop) : Prop :=
    (xxw_G10_init y a1 σ (fun σ1 => Q σ1))
abbrev xxr_G12_init : Room := { frames := 3, cells := 0, slots := 0, locals := 62 }
set_option maxHeartbeats 4000000 in
set_option maxRecDepth 100000 in
theorem xxt_G12_init (l : Launch) {D : va_G} {E : Nat → ClassId} {A : Nat → Prop} {ad sk : Nat → Nat} {y : Nat}  (a1 : Int32) (σ : xx_S) {Q : xx_S → Prop} (hw : xxw_G12_init y a1 σ Q) :
    Met l yX12_init (ws_ yX12_init cX12_init 2 none) xxr_G12_init (va_Pc [.ref y, .int a1] (fun U => xx_V D E A ad sk σ U U.heap)) (va_Qv Q (fun u t => xx_W D E A ad sk u t t.heap) A) 0 0 A := by
  refine gg_entry (W0 := fun s H => xx_V D E A ad sk σ s H) (by decide) (Nat.le_of_ble_eq_true rfl) ?_
  intro p e s m args below meth c C0 hV ls hl
  have C0 : gg_C p s m args meth c RX12 cX12_init 2 none := C0
  obtain ⟨hx, hb, hml, hown, hts, hr, hlocks⟩ := id C0
  have hl : lv_has ls 2 [(0, .ref y), (1, .int a1)] := hl
  have hS : va_S A s.heap s.heap [] := va_S.rf
  have hA : xx_A sk A s := hV.2
  have hW : xx_W D E A ad sk σ s s.heap := hV.1
  unfold xxw_G12_init at hw
  refine lv_aload_n hx hb dX12_init_0 rfl (lv_at hl 0 rfl) ?_
  refine lv_iload_n hx hb dX12_init_1 rfl (lv_at hl 1 rfl) ?_
  refine xx_aI (k := 0) (n1 := 0) ⟨hx, hb, hml, hown, hts⟩ hA (xxt_G10_init l _ _ hw) (cwI 1 hts (lw_meth q150) rfl rfl rfl (hts _ q123) (hts _ q188) (hts _ q149) rfl cd_X10_init.2 ⟨Nat.le_of_ble_eq_true rfl, Nat.le_of_ble_eq_true rfl⟩) hW hS rfl hl.1 rfl (Nat.le_of_ble_eq_true rfl) dX12_init_2 ⟨Nat.zero_le _, Nat.zero_le _⟩ (fun σ1 H locs hw hW hS => ?_)
  exact gg_vret (xx_mv D E A ad sk) C0 hW hS hw dX12_init_5
theorem cd_X13_init : yX13_init.cls = RX13 ∧ yX13_init.cls ≠ "java/lang/invoke/MethodHandle" ∧ yX13_init.cls ≠ "java/lang/invoke/VarHandle" ∧ (parseMethodDescriptor yX13_init.desc).map (fun d => d.parameters.length) = some 1 := by decide +kernel
/-! GleanersForGaps$Old.<init>(I)V -/
def xxw_G13_init (y : Nat) (a1 : Int32) (σ : xx_S) (Q : xx_S → Prop) : Prop :=
    (xxw_G11_init y a1 σ (fun σ1 => Q σ1))
abbrev xxr_G13_init : Room := { frames := 3, cells := 0, slots := 0, locals := 62 }
set_option maxHeartbeats 4000000 in
set_option maxRecDepth 100000 in
theorem xxt_G13_init (l : Launch) {D : va_G} {E : Nat → ClassId} {A : Nat → Prop} {ad sk : Nat → Nat} {y : Nat}  (a1 : Int32) (σ : xx_S) {Q : xx_S → Prop} (hw : xxw_G13_init y a1 σ Q) :
    Met l yX13_init (ws_ yX13_init cX13_init 2 none) xxr_G13_init (va_Pc [.ref y, .int a1] (fun U => xx_V D E A ad sk σ U U.heap)) (va_Qv Q (fun u t => xx_W D E A ad sk u t t.heap) A) 0 0 A := by
  refine gg_entry (W0 := fun s H => xx_V D E A ad sk σ s H) (by decide) (Nat.le_of_ble_eq_true rfl) ?_
  intro p e s m args below meth c C0 hV ls hl
  have C0 : gg_C p s m args meth c RX13 cX13_init 2 none := C0
  obtain ⟨hx, hb, hml, hown, hts, hr, hlocks⟩ := id C0
  have hl : lv_has ls 2 [(0, .ref y), (1, .int a1)] := hl
  have hS : va_S A s.heap s.heap [] := va_S.rf
  have hA : xx_A sk A s := hV.2
  have hW : xx_W D E A ad sk σ s s.heap := hV.1
  unfold xxw_G13_init at hw
  refine lv_aload_n hx hb dX13_init_0 rfl (lv_at hl 0 rfl) ?_
  refine lv_iload_n hx hb dX13_init_1 rfl (lv_at hl 1 rfl) ?_
  refine xx_aI (k := 0) (n1 := 0) ⟨hx, hb, hml, hown, hts⟩ hA (xxt_G11_init l _ _ hw) (cwI 1 hts (lw_meth q178) rfl rfl rfl (hts _ q124) (hts _ q197) (hts _ q177) rfl cd_X11_init.2 ⟨Nat.le_of_ble_eq_true rfl, Nat.le_of_ble_eq_true rfl⟩) hW hS rfl hl.1 rfl (Nat.le_of_ble_eq_true rfl) dX13_init_2 ⟨Nat.zero_le _, Nat.zero_le _⟩ (fun σ1 H locs hw hW hS => ?_)
  exact gg_vret (xx_mv D E A ad sk) C0 hW hS hw dX13_init_5
theorem cd_X14_init : yX14_init.cls = RX14 ∧ yX14_init.cls ≠ "java/lang/invoke/MethodHandle" ∧ yX14_init.cls ≠ "java/lang/invoke/VarHandle" ∧ (parseMethodDescriptor yX14_init.desc).map (fun d => d.parameters.length) = some 1 := by decide +kernel
/-! GleanersForGaps$Child.<init>(I)V -/
def xxw_G14_init (y : Nat) (a1 : Int32) (σ : xx_S) (Q : xx_S → Prop) : Prop :=
    (xxw_G9_init y a1 σ (fun σ1 => Q σ1))
abbrev xxr_G14_init : Room := { frames := 2, cells := 0, slots := 0, locals := 41 }
set_option maxHeartbeats 4000000 in
set_option maxRecDepth 100000 in
theorem xxt_G14_init (l : Launch) {D : va_G} {E : Nat → ClassId} {A : Nat → Prop} {ad sk : Nat → Nat} {y : Nat}  (a1 : Int32) (σ : xx_S) {Q : xx_S → Prop} (hw : xxw_G14_init y a1 σ Q) :
    Met l yX14_init (ws_ yX14_init cX14_init 2 none) xxr_G14_init (va_Pc [.ref y, .int a1] (fun U => xx_V D E A ad sk σ U U.heap)) (va_Qv Q (fun u t => xx_W D E A ad sk u t t.heap) A) 0 0 A := by
  refine gg_entry (W0 := fun s H => xx_V D E A ad sk σ s H) (by decide) (Nat.le_of_ble_eq_true rfl) ?_
  intro p e s m args below meth c C0 hV ls hl
  have C0 : gg_C p s m args meth c RX14 cX14_init 2 none := C0
  obtain ⟨hx, hb, hml, hown, hts, hr, hlocks⟩ := id C0
  have hl : lv_has ls 2 [(0, .ref y), (1, .int a1)] := hl
  have hS : va_S A s.heap s.heap [] := va_S.rf
  have hA : xx_A sk A s := hV.2
  have hW : xx_W D E A ad sk σ s s.heap := hV.1
  unfold xxw_G14_init at hw
  refine lv_aload_n hx hb dX14_init_0 rfl (lv_at hl 0 rfl) ?_
  refine lv_iload_n hx hb dX14_init_1 rfl (lv_at hl 1 rfl) ?_
  refine xx_aI (k := 0) (n1 := 0) ⟨hx, hb, hml, hown, hts⟩ hA (xxt_G9_init l _ _ hw) (cwI 1 hts (lw_meth q153) rfl rfl rfl (hts _ q122) (hts _ q206) (hts _ q152) rfl cd_X9_init.2 ⟨Nat.le_of_ble_eq_true rfl, Nat.le_of_ble_eq_true rfl⟩) hW hS rfl hl.1 rfl (Nat.le_of_ble_eq_true rfl) dX14_init_2 ⟨Nat.zero_le _, Nat.zero_le _⟩ (fun σ1 H locs hw hW hS => ?_)
  exact gg_vret (xx_mv D E A ad sk) C0 hW hS hw dX14_init_5
theorem cd_X9_like : yX9_like.cls = RX9 ∧ yX9_like.cls ≠ "java/lang/invoke/MethodHandle" ∧ yX9_like.cls ≠ "java/lang/invoke/VarHandle" ∧ (parseMethodDescriptor yX9_like.desc).map (fun d => d.parameters.length) = some 1 := by decide +kernel
/-! GleanersForGaps$Gleaner.like(·LGleanersForGaps$Gleaner;)LGleanersForGaps$Gleaner; -/
def xxw_G9_like (y : Nat) (a1 : Nat) (σ : xx_S) (Q : Option Nat → xx_S → Prop) : Prop :=
    ∃ (k1 : Nat) (nk1 ak1 : Int32), xx_gl σ a1 k1 nk1 ak1 ∧ ∃ (k2 : Nat) (nk2 ak2 : Int32), xx_gl σ y k2 nk2 ak2 ∧ (∀ σ3 : xx_S, σ3 = xx_ps σ y (.inr (k2, [.int nk2, .int ak1])) → Q (some y) σ3)
abbrev xxr_G9_like : Room := { frames := 0, cells := 0, slots := 0, locals := 0 }
set_option maxHeartbeats 4000000 in
set_option maxRecDepth 100000 in
theorem xxt_G9_like (l : Launch) {D : va_G} {E : Nat → ClassId} {A : Nat → Prop} {ad sk : Nat → Nat} {y : Nat}  (a1 : Nat) (σ : xx_S) {Q : Option Nat → xx_S → Prop} (hw : xxw_G9_like y a1 σ Q) :
    Met l yX9_like (ws_ yX9_like cX9_like 2 (some (.object "GleanersForGaps$Gleaner"))) xxr_G9_like (va_Pc [.ref y, .ref a1] (fun U => xx_V D E A ad sk σ U U.heap)) (va_Qq Q (fun u t => xx_W D E A ad sk u t t.heap) A) 0 0 A := by
  refine gg_entry (W0 := fun s H => xx_V D E A ad sk σ s H) (by decide) (Nat.le_of_ble_eq_true rfl) ?_
  intro p e s m args below meth c C0 hV ls hl
  have C0 : gg_C p s m args meth c RX9 cX9_like 2 (some (.object "GleanersForGaps$Gleaner")) := C0
  obtain ⟨hx, hb, hml, hown, hts, hr, hlocks⟩ := id C0
  have hl : lv_has ls 2 [(0, .ref y), (1, .ref a1)] := hl
  have hS : va_S A s.heap s.heap [] := va_S.rf
  have hA : xx_A sk A s := hV.2
  have hW : xx_W D E A ad sk σ s s.heap := hV.1
  unfold xxw_G9_like at hw
  refine lv_aload_n hx hb dX9_like_0 rfl (lv_at hl 0 rfl) ?_
  refine lv_aload_n hx hb dX9_like_1 rfl (lv_at hl 1 rfl) ?_
  obtain ⟨k1, nk1, ak1, hgl, hw⟩ := hw
  refine xx_gla hx hb hts hown hW hgl q165 (fun _ h9 => h9) dX9_like_2 ?_
  obtain ⟨k2, nk2, ak2, hgl, hw⟩ := hw
  refine xx_pgla hx hb hts hown hW hS hgl q165 (fun _ h9 => h9) dX9_like_5 (fun H locs hW hS => ?_)
  obtain ⟨σ3, eσ3⟩ : ∃ z, z = xx_ps σ y (.inr (k2, [.int nk2, .int ak1])) := ⟨_, rfl⟩
  rw [← eσ3] at hW
  have hw := hw σ3 eσ3
  refine lv_aload_n hx hb dX9_like_8 rfl (lv_at hl 0 rfl) ?_
  exact xx_qret (v := some y) (xx_mv D E A ad sk) (Or.inl ⟨_, rfl⟩) C0 hW hS hw dX9_like_9
/-- like, called through Gleaner -/
def xxw_vlike (y : Nat) (b0 : Nat) (σ : xx_S) (Q : Option Nat → xx_S → Prop) : Prop := ∃ (k : Nat) (n a : Int32), xx_gl σ y k n a ∧ xxw_G9_like y b0 σ Q
set_option maxHeartbeats 4000000 in
theorem xx_vc_like {p : Program} {l : Launch} {e : Env} {R : Room} {s : State} {m : MethodId} {args : Array Value} {below : List Frame} {meth : Method} {c : Code} {H : Heap} {locs : List Loc} {cells slots : Nat} {Q : State → Prop} {cc : ByteArray} {pc nL index : Nat} {ls : Array Slot} {rest : List Value} {own : String} {D : va_G} {E : Nat → ClassId} {A : Nat → Prop} {ad sk : Nat → Nat} {σ : xx_S} {y b0 : Nat} {Q1 : Option Nat → xx_S → Prop}
    (S : CallFix p m c cc nL s args lw_all own) (hA : xx_A sk A s) (hw : xxw_vlike y b0 σ Q1) (hlink : Cond.methodLink own index yX9_like ∈ lw_all) (hR : 0 + 1 ≤ R.frames ∧ 21 ≤ R.locals) (hf : cells ≤ R.cells ∧ slots ≤ R.slots)
    (hW : xx_W D E A ad sk σ s H) (hS : va_S A s.heap H locs) (hsize : ls.size = nL) (hw8 : (rest.map fun v => v.category).sum ≤ 8) (hd : decode cc pc = .ok (.invokevirtual index, 3))
    (kk : ∀ (r : Option Nat) (u1 : xx_S) (H1 : Heap) (locs1 : List Loc), Q1 r u1 → xx_W D E A ad sk u1 s H1 → va_S A s.heap H1 locs1 → W p l e R s m args below meth c H1 locs1 cells slots Q (F0 m (pc + 3) ls (va_rf r :: rest))) :
    W p l e R s m args below meth c H locs cells slots Q (F0 m pc ls (.ref b0 :: .ref y :: rest)) := by
  have hts := S.2.2.2.2
  obtain ⟨k, n, a, hgl, w⟩ := hw
  obtain ⟨hrc, cC, hat⟩ := xx_glrecv hW hgl
  have hk : k = 9 ∨ k = 10 ∨ k = 11 ∨ k = 12 ∨ k = 13 ∨ k = 14 := by have := hgl.2.2; omega
  rcases hk with h | h | h | h | h | h <;> subst h
  · exact gg_UQ (cells := cells) (slots := slots) (As := [.ref b0]) (xx_mv0 D E A ad sk σ) (xx_mv D E A ad sk) S (xxt_G9_like l _ _ w) (va_cwU (C := RX9) (owner := RX9) (x := yX9_like) 1 hts (lw_U hlink q1085 q1084 q1083 q122 q1091) rfl rfl rfl rfl ⟨by decide +kernel, by decide +kernel, cd_X9_like.2.2.2⟩ ⟨Nat.le_trans (Nat.le_of_ble_eq_true rfl) hR.1, Nat.le_trans (Nat.le_of_ble_eq_true rfl) hR.2⟩) (xx_toV hW hA hS) hrc hS rfl hsize rfl hw8 hd ⟨hf.1, hf.2⟩ kk
  · exact gg_UQ (cells := cells) (slots := slots) (As := [.ref b0]) (xx_mv0 D E A ad sk σ) (xx_mv D E A ad sk) S (xxt_G9_like l _ _ w) (va_cwU (C := RX10) (owner := RX9) (x := yX9_like) 1 hts (lw_U hlink q1085 q1090 q1083 q122 q1091) rfl rfl rfl rfl ⟨by decide +kernel, by decide +kernel, cd_X9_like.2.2.2⟩ ⟨Nat.le_trans (Nat.le_of_ble_eq_true rfl) hR.1, Nat.le_trans (Nat.le_of_ble_eq_true rfl) hR.2⟩) (xx_toV hW hA hS) hrc hS rfl hsize rfl hw8 hd ⟨hf.1, hf.2⟩ kk
  · exact gg_UQ (cells := cells) (slots := slots) (As := [.ref b0]) (xx_mv0 D E A ad sk σ) (xx_mv D E A ad sk) S (xxt_G9_like l _ _ w) (va_cwU (C := RX11) (owner := RX9) (x := yX9_like) 1 hts (lw_U hlink q1085 q1089 q1083 q122 q1091) rfl rfl rfl rfl ⟨by decide +kernel, by decide +kernel, cd_X9_like.2.2.2⟩ ⟨Nat.le_trans (Nat.le_of_ble_eq_true rfl) hR.1, Nat.le_trans (Nat.le_of_ble_eq_true rfl) hR.2⟩) (xx_toV hW hA hS) hrc hS rfl hsize rfl hw8 hd ⟨hf.1, hf.2⟩ kk
  · exact gg_UQ (cells := cells) (slots := slots) (As := [.ref b0]) (xx_mv0 D E A ad sk σ) (xx_mv D E A ad sk) S (xxt_G9_like l _ _ w) (va_cwU (C := RX12) (owner := RX9) (x := yX9_like) 1 hts (lw_U hlink q1085 q1087 q1083 q122 q1091) rfl rfl rfl rfl ⟨by decide +kernel, by decide +kernel, cd_X9_like.2.2.2⟩ ⟨Nat.le_trans (Nat.le_of_ble_eq_true rfl) hR.1, Nat.le_trans (Nat.le_of_ble_eq_true rfl) hR.2⟩) (xx_toV hW hA hS) hrc hS rfl hsize rfl hw8 hd ⟨hf.1, hf.2⟩ kk
  · exact gg_UQ (cells := cells) (slots := slots) (As := [.ref b0]) (xx_mv0 D E A ad sk σ) (xx_mv D E A ad sk) S (xxt_G9_like l _ _ w) (va_cwU (C := RX13) (owner := RX9) (x := yX9_like) 1 hts (lw_U hlink q1085 q1088 q1083 q122 q1091) rfl rfl rfl rfl ⟨by decide +kernel, by decide +kernel, cd_X9_like.2.2.2⟩ ⟨Nat.le_trans (Nat.le_of_ble_eq_true rfl) hR.1, Nat.le_trans (Nat.le_of_ble_eq_true rfl) hR.2⟩) (xx_toV hW hA hS) hrc hS rfl hsize rfl hw8 hd ⟨hf.1, hf.2⟩ kk
  · exact gg_UQ (cells := cells) (slots := slots) (As := [.ref b0]) (xx_mv0 D E A ad sk σ) (xx_mv D E A ad sk) S (xxt_G9_like l _ _ w) (va_cwU (C := RX14) (owner := RX9) (x := yX9_like) 1 hts (lw_U hlink q1085 q1086 q1083 q122 q1091) rfl rfl rfl rfl ⟨by decide +kernel, by decide +kernel, cd_X9_like.2.2.2⟩ ⟨Nat.le_trans (Nat.le_of_ble_eq_true rfl) hR.1, Nat.le_trans (Nat.le_of_ble_eq_true rfl) hR.2⟩) (xx_toV hW hA hS) hrc hS rfl hsize rfl hw8 hd ⟨hf.1, hf.2⟩ kk
theorem cd_X0_made : yX0_made.cls = RX0 ∧ yX0_made.cls ≠ "java/lang/invoke/MethodHandle" ∧ yX0_made.cls ≠ "java/lang/invoke/VarHandle" ∧ (parseMethodDescriptor yX0_made.desc).map (fun d => d.parameters.length) = some 2 := by decide +kernel
/-! GleanersForGaps.made(II)LGleanersForGaps$Gleaner; -/
def xxw_made (N : Nat) (a0 : Int32) (a1 : Int32) (σ : xx_S) (Q : Option Nat → xx_S → Prop) : Prop :=
    ((a0 = (1 : Int32) → (0 + 1 ≤ N ∧ ∀ y1 : Nat, y1 ∉ xx_L σ → (∀ σ2 : xx_S, σ2 = xx_nw σ y1 (.inr (10, [.int 0, .int 0])) → (xxw_G10_init y1 a1 σ2 (fun σ3 => Q (some y1) σ3))))) ∧ (a0 = (2 : Int32) → (0 + 1 ≤ N ∧ ∀ y5 : Nat, y5 ∉ xx_L σ → (∀ σ6 : xx_S, σ6 = xx_nw σ y5 (.inr (11, [.int 0, .int 0])) → (xxw_G11_init y5 a1 σ6 (fun σ7 => Q (some y5) σ7))))) ∧ (a0 = (3 : Int32) → (0 + 1 ≤ N ∧ ∀ y9 : Nat, y9 ∉ xx_L σ → (∀ σ10 : xx_S, σ10 = xx_nw σ y9 (.inr (12, [.int 0, .int 0])) → (xxw_G12_init y9 a1 σ10 (fun σ11 => Q (some y9) σ11))))) ∧ (a0 = (4 : Int32) → (0 + 1 ≤ N ∧ ∀ y13 : Nat, y13 ∉ xx_L σ → (∀ σ14 : xx_S, σ14 = xx_nw σ y13 (.inr (13, [.int 0, .int 0])) → (xxw_G13_init y13 a1 σ14 (fun σ15 => Q (some y13) σ15))))) ∧ (a0 = (5 : Int32) → (0 + 1 ≤ N ∧ ∀ y17 : Nat, y17 ∉ xx_L σ → (∀ σ18 : xx_S, σ18 = xx_nw σ y17 (.inr (14, [.int 0, .int 0])) → (xxw_G14_init y17 a1 σ18 (fun σ19 => Q (some y17) σ19))))) ∧ (¬ a0 = (1 : Int32) ∧ ¬ a0 = (2 : Int32) ∧ ¬ a0 = (3 : Int32) ∧ ¬ a0 = (4 : Int32) ∧ ¬ a0 = (5 : Int32) → (0 + 1 ≤ N ∧ ∀ y21 : Nat, y21 ∉ xx_L σ → (∀ σ22 : xx_S, σ22 = xx_nw σ y21 (.inr (9, [.int 0, .int 0])) → (xxw_G9_init y21 a1 σ22 (fun σ23 => Q (some y21) σ23))))))
abbrev xxr_made (N : Nat) : Room := { frames := 4, cells := N, slots := 64 * N, locals := 83 }
set_option maxHeartbeats 4000000 in
set_option maxRecDepth 100000 in
theorem xxt_made (l : Launch) {N : Nat} {D : va_G} {E : Nat → ClassId} {A : Nat → Prop} {ad sk : Nat → Nat}  (a0 : Int32) (a1 : Int32) (σ : xx_S) {Q : Option Nat → xx_S → Prop} (hw : xxw_made N a0 a1 σ Q) :
    Met l yX0_made (ws_ yX0_made cX0_made 2 (some (.object "GleanersForGaps$Gleaner"))) (xxr_made N) (va_Pc [.int a0, .int a1] (fun U => xx_V D E A ad sk σ U U.heap)) (va_Qq Q (fun u t => xx_W D E A ad sk u t t.heap) A) N (64 * N) A := by
  refine gg_entry (W0 := fun s H => xx_V D E A ad sk σ s H) (by decide) (Nat.le_of_ble_eq_true rfl) ?_
  intro p e s m args below meth c C0 hV ls hl
  have C0 : gg_C p s m args meth c RX0 cX0_made 2 (some (.object "GleanersForGaps$Gleaner")) := C0
  obtain ⟨hx, hb, hml, hown, hts, hr, hlocks⟩ := id C0
  have hl : lv_has ls 2 [(0, .int a0), (1, .int a1)] := hl
  have hS : va_S A s.heap s.heap [] := va_S.rf
  have hC : 0 ≤ N := Nat.zero_le _
  have hA : xx_A sk A s := hV.2
  have hW : xx_W D E A ad sk σ s s.heap := hV.1
  unfold xxw_made at hw
  refine lv_iload_n hx hb dX0_made_0 rfl (lv_at hl 0 rfl) ?_
  by_cases e4 : a0 = (1 : Int32)
  · obtain ⟨hw, -⟩ := hw
    have hw := hw e4
    refine lv_tableIn (off := 35) (tgt := 36) hx hb dX0_made_1 (by rw [e4]; decide) (by rw [e4]; decide) (by rw [e4]; rfl) (by decide) ?_
    obtain ⟨hC, hw⟩ := hw
    refine xx_new (k := 0) (T := TX10) (N := 2) (ci := 10) (fs := [.int 0, .int 0]) hx hb hts in_X10 tyX10 tyX10_ok hown q146 q147 q123 hW hS hA.2.1 rfl (fun j hj => by rcases (show j = 0 ∨ j = 1 by omega) with e | e <;> subst e <;> rfl) hC (Nat.mul_le_mul_left 64 hC) (Nat.le_of_ble_eq_true rfl) dX0_made_36 (fun y1 H hnew hW hS => ?_)
    have hw := hw y1 hnew
    obtain ⟨σ2, eσ2⟩ : ∃ z, z = xx_nw σ y1 (.inr (10, [.int 0, .int 0])) := ⟨_, rfl⟩
    rw [← eσ2] at hW
    have hw := hw σ2 eσ2
    refine lv_dup hx hb dX0_made_39 rfl ?_
    refine lv_iload_n hx hb dX0_made_40 rfl (lv_at hl 1 rfl) ?_
    refine xx_aI (k := (0 + 1)) (n1 := 0) ⟨hx, hb, hml, hown, hts⟩ hA (xxt_G10_init l _ _ hw) (cwI 1 hts (lw_meth q150) rfl rfl rfl (hts _ q123) (hts _ q148) (hts _ q149) rfl cd_X10_init.2 ⟨Nat.le_of_ble_eq_true rfl, Nat.le_of_ble_eq_true rfl⟩) hW hS rfl hl.1 rfl (Nat.le_of_ble_eq_true rfl) dX0_made_41 ⟨hC, Nat.mul_le_mul_left 64 hC⟩ (fun σ3 H locs hw hW hS => ?_)
    exact W.widen hC (Nat.mul_le_mul_left 64 hC) (xx_qret (v := (some y1)) (xx_mv D E A ad sk) (Or.inl ⟨_, rfl⟩) C0 hW hS hw dX0_made_44)
  obtain ⟨-, hw⟩ := hw
  by_cases e8 : a0 = (2 : Int32)
  · obtain ⟨hw, -⟩ := hw
    have hw := hw e8
    refine lv_tableIn (off := 44) (tgt := 45) hx hb dX0_made_1 (by rw [e8]; decide) (by rw [e8]; decide) (by rw [e8]; rfl) (by decide) ?_
    obtain ⟨hC, hw⟩ := hw
    refine xx_new (k := 0) (T := TX11) (N := 2) (ci := 11) (fs := [.int 0, .int 0]) hx hb hts in_X11 tyX11 tyX11_ok hown q174 q175 q124 hW hS hA.2.1 rfl (fun j hj => by rcases (show j = 0 ∨ j = 1 by omega) with e | e <;> subst e <;> rfl) hC (Nat.mul_le_mul_left 64 hC) (Nat.le_of_ble_eq_true rfl) dX0_made_45 (fun y5 H hnew hW hS => ?_)
    have hw := hw y5 hnew
    obtain ⟨σ6, eσ6⟩ : ∃ z, z = xx_nw σ y5 (.inr (11, [.int 0, .int 0])) := ⟨_, rfl⟩
    rw [← eσ6] at hW
    have hw := hw σ6 eσ6
    refine lv_dup hx hb dX0_made_48 rfl ?_
    refine lv_iload_n hx hb dX0_made_49 rfl (lv_at hl 1 rfl) ?_
    refine xx_aI (k := (0 + 1)) (n1 := 0) ⟨hx, hb, hml, hown, hts⟩ hA (xxt_G11_init l _ _ hw) (cwI 1 hts (lw_meth q178) rfl rfl rfl (hts _ q124) (hts _ q176) (hts _ q177) rfl cd_X11_init.2 ⟨Nat.le_of_ble_eq_true rfl, Nat.le_of_ble_eq_true rfl⟩) hW hS rfl hl.1 rfl (Nat.le_of_ble_eq_true rfl) dX0_made_50 ⟨hC, Nat.mul_le_mul_left 64 hC⟩ (fun σ7 H locs hw hW hS => ?_)
    exact W.widen hC (Nat.mul_le_mul_left 64 hC) (xx_qret (v := (some y5)) (xx_mv D E A ad sk) (Or.inl ⟨_, rfl⟩) C0 hW hS hw dX0_made_53)
  obtain ⟨-, hw⟩ := hw
  by_cases e12 : a0 = (3 : Int32)
  · obtain ⟨hw, -⟩ := hw
    have hw := hw e12
    refine lv_tableIn (off := 53) (tgt := 54) hx hb dX0_made_1 (by rw [e12]; decide) (by rw [e12]; decide) (by rw [e12]; rfl) (by decide) ?_
    obtain ⟨hC, hw⟩ := hw
    refine xx_new (k := 0) (T := TX12) (N := 2) (ci := 12) (fs := [.int 0, .int 0]) hx hb hts in_X12 tyX12 tyX12_ok hown q183 q184 q125 hW hS hA.2.1 rfl (fun j hj => by rcases (show j = 0 ∨ j = 1 by omega) with e | e <;> subst e <;> rfl) hC (Nat.mul_le_mul_left 64 hC) (Nat.le_of_ble_eq_true rfl) dX0_made_54 (fun y9 H hnew hW hS => ?_)
    have hw := hw y9 hnew
    obtain ⟨σ10, eσ10⟩ : ∃ z, z = xx_nw σ y9 (.inr (12, [.int 0, .int 0])) := ⟨_, rfl⟩
    rw [← eσ10] at hW
    have hw := hw σ10 eσ10
    refine lv_dup hx hb dX0_made_57 rfl ?_
    refine lv_iload_n hx hb dX0_made_58 rfl (lv_at hl 1 rfl) ?_
    refine xx_aI (k := (0 + 1)) (n1 := 0) ⟨hx, hb, hml, hown, hts⟩ hA (xxt_G12_init l _ _ hw) (cwI 1 hts (lw_meth q187) rfl rfl rfl (hts _ q125) (hts _ q185) (hts _ q186) rfl cd_X12_init.2 ⟨Nat.le_of_ble_eq_true rfl, Nat.le_of_ble_eq_true rfl⟩) hW hS rfl hl.1 rfl (Nat.le_of_ble_eq_true rfl) dX0_made_59 ⟨hC, Nat.mul_le_mul_left 64 hC⟩ (fun σ11 H locs hw hW hS => ?_)
    exact W.widen hC (Nat.mul_le_mul_left 64 hC) (xx_qret (v := (some y9)) (xx_mv D E A ad sk) (Or.inl ⟨_, rfl⟩) C0 hW hS hw dX0_made_62)
  obtain ⟨-, hw⟩ := hw
  by_cases e16 : a0 = (4 : Int32)
  · obtain ⟨hw, -⟩ := hw
    have hw := hw e16
    refine lv_tableIn (off := 62) (tgt := 63) hx hb dX0_made_1 (by rw [e16]; decide) (by rw [e16]; decide) (by rw [e16]; rfl) (by decide) ?_
    obtain ⟨hC, hw⟩ := hw
    refine xx_new (k := 0) (T := TX13) (N := 2) (ci := 13) (fs := [.int 0, .int 0]) hx hb hts in_X13 tyX13 tyX13_ok hown q192 q193 q126 hW hS hA.2.1 rfl (fun j hj => by rcases (show j = 0 ∨ j = 1 by omega) with e | e <;> subst e <;> rfl) hC (Nat.mul_le_mul_left 64 hC) (Nat.le_of_ble_eq_true rfl) dX0_made_63 (fun y13 H hnew hW hS => ?_)
    have hw := hw y13 hnew
    obtain ⟨σ14, eσ14⟩ : ∃ z, z = xx_nw σ y13 (.inr (13, [.int 0, .int 0])) := ⟨_, rfl⟩
    rw [← eσ14] at hW
    have hw := hw σ14 eσ14
    refine lv_dup hx hb dX0_made_66 rfl ?_
    refine lv_iload_n hx hb dX0_made_67 rfl (lv_at hl 1 rfl) ?_
    refine xx_aI (k := (0 + 1)) (n1 := 0) ⟨hx, hb, hml, hown, hts⟩ hA (xxt_G13_init l _ _ hw) (cwI 1 hts (lw_meth q196) rfl rfl rfl (hts _ q126) (hts _ q194) (hts _ q195) rfl cd_X13_init.2 ⟨Nat.le_of_ble_eq_true rfl, Nat.le_of_ble_eq_true rfl⟩) hW hS rfl hl.1 rfl (Nat.le_of_ble_eq_true rfl) dX0_made_68 ⟨hC, Nat.mul_le_mul_left 64 hC⟩ (fun σ15 H locs hw hW hS => ?_)
    exact W.widen hC (Nat.mul_le_mul_left 64 hC) (xx_qret (v := (some y13)) (xx_mv D E A ad sk) (Or.inl ⟨_, rfl⟩) C0 hW hS hw dX0_made_71)
  obtain ⟨-, hw⟩ := hw
  by_cases e20 : a0 = (5 : Int32)
  · obtain ⟨hw, -⟩ := hw
    have hw := hw e20
    refine lv_tableIn (off := 71) (tgt := 72) hx hb dX0_made_1 (by rw [e20]; decide) (by rw [e20]; decide) (by rw [e20]; rfl) (by decide) ?_
    obtain ⟨hC, hw⟩ := hw
    refine xx_new (k := 0) (T := TX14) (N := 2) (ci := 14) (fs := [.int 0, .int 0]) hx hb hts in_X14 tyX14 tyX14_ok hown q201 q202 q127 hW hS hA.2.1 rfl (fun j hj => by rcases (show j = 0 ∨ j = 1 by omega) with e | e <;> subst e <;> rfl) hC (Nat.mul_le_mul_left 64 hC) (Nat.le_of_ble_eq_true rfl) dX0_made_72 (fun y17 H hnew hW hS => ?_)
    have hw := hw y17 hnew
    obtain ⟨σ18, eσ18⟩ : ∃ z, z = xx_nw σ y17 (.inr (14, [.int 0, .int 0])) := ⟨_, rfl⟩
    rw [← eσ18] at hW
    have hw := hw σ18 eσ18
    refine lv_dup hx hb dX0_made_75 rfl ?_
    refine lv_iload_n hx hb dX0_made_76 rfl (lv_at hl 1 rfl) ?_
    refine xx_aI (k := (0 + 1)) (n1 := 0) ⟨hx, hb, hml, hown, hts⟩ hA (xxt_G14_init l _ _ hw) (cwI 1 hts (lw_meth q205) rfl rfl rfl (hts _ q127) (hts _ q203) (hts _ q204) rfl cd_X14_init.2 ⟨Nat.le_of_ble_eq_true rfl, Nat.le_of_ble_eq_true rfl⟩) hW hS rfl hl.1 rfl (Nat.le_of_ble_eq_true rfl) dX0_made_77 ⟨hC, Nat.mul_le_mul_left 64 hC⟩ (fun σ19 H locs hw hW hS => ?_)
    exact W.widen hC (Nat.mul_le_mul_left 64 hC) (xx_qret (v := (some y17)) (xx_mv D E A ad sk) (Or.inl ⟨_, rfl⟩) C0 hW hS hw dX0_made_80)
  obtain ⟨-, hw⟩ := hw
  have hw := hw ⟨e4, e8, e12, e16, e20⟩
  refine lv_tableOut (tgt := 81) hx hb dX0_made_1 (gg_swout (lo := 1) (hi := 5) (by decide) (by decide) (fun v h1 h2 => ?_)) (by decide) ?_
  · have hv : v = 1 ∨ v = 2 ∨ v = 3 ∨ v = 4 ∨ v = 5 := by omega
    rcases hv with h | h | h | h | h <;> subst h
    · exact e4
    · exact e8
    · exact e12
    · exact e16
    · exact e20
  obtain ⟨hC, hw⟩ := hw
  refine xx_new (k := 0) (T := TX9) (N := 2) (ci := 9) (fs := [.int 0, .int 0]) hx hb hts in_X9 tyX9 tyX9_ok hown q210 q211 q122 hW hS hA.2.1 rfl (fun j hj => by rcases (show j = 0 ∨ j = 1 by omega) with e | e <;> subst e <;> rfl) hC (Nat.mul_le_mul_left 64 hC) (Nat.le_of_ble_eq_true rfl) dX0_made_81 (fun y21 H hnew hW hS => ?_)
  have hw := hw y21 hnew
  obtain ⟨σ22, eσ22⟩ : ∃ z, z = xx_nw σ y21 (.inr (9, [.int 0, .int 0])) := ⟨_, rfl⟩
  rw [← eσ22] at hW
  have hw := hw σ22 eσ22
  refine lv_dup hx hb dX0_made_84 rfl ?_
  refine lv_iload_n hx hb dX0_made_85 rfl (lv_at hl 1 rfl) ?_
  refine xx_aI (k := (0 + 1)) (n1 := 0) ⟨hx, hb, hml, hown, hts⟩ hA (xxt_G9_init l _ _ hw) (cwI 1 hts (lw_meth q153) rfl rfl rfl (hts _ q122) (hts _ q212) (hts _ q152) rfl cd_X9_init.2 ⟨Nat.le_of_ble_eq_true rfl, Nat.le_of_ble_eq_true rfl⟩) hW hS rfl hl.1 rfl (Nat.le_of_ble_eq_true rfl) dX0_made_86 ⟨hC, Nat.mul_le_mul_left 64 hC⟩ (fun σ23 H locs hw hW hS => ?_)
  exact W.widen hC (Nat.mul_le_mul_left 64 hC) (xx_qret (v := (some y21)) (xx_mv D E A ad sk) (Or.inl ⟨_, rfl⟩) C0 hW hS hw dX0_made_89)
theorem cd_X0_gleaner : yX0_gleaner.cls = RX0 ∧ yX0_gleaner.cls ≠ "java/lang/invoke/MethodHandle" ∧ yX0_gleaner.cls ≠ "java/lang/invoke/VarHandle" ∧ (parseMethodDescriptor yX0_gleaner.desc).map (fun d => d.parameters.length) = some 2 := by decide +kernel
/-! GleanersForGaps.gleaner(II)I -/
def xxw_gleaner (N : Nat) (a1 : Int32) (a2 : Int32) (σ : xx_S) (Q : Int32 → xx_S → Prop) : Prop :=
    (xxw_in ((a1).toInt64) (0 : Int64) (5 : Int64) σ (fun r2 σ1 => (((r2 = 0) → Q (-2 : Int32) σ1) ∧ (¬ (r2 = 0) → (xxw_in ((a2).toInt64) (0 : Int64) (9 : Int64) σ1 (fun r4 σ3 => (((r4 = 0) → Q (-2 : Int32) σ3) ∧ (¬ (r4 = 0) → ((((xx_g σ3 0 1) = (5 : Int32)) → Q (-4 : Int32) σ3) ∧ (¬ ((xx_g σ3 0 1) = (5 : Int32)) → (∃ N5 : Nat, 0 + N5 ≤ N ∧ xxw_made N5 a1 a2 σ3 (fun r7 σ6 => ∃ y8 : Nat, r7 = some y8 ∧ vp_in (xx_g σ3 0 1) 5 ∧ ∃ (k9 : Nat) (nk9 ak9 : Int32), xx_gl σ6 y8 k9 nk9 ak9 ∧ (∀ σ10 : xx_S, σ10 = xx_rs σ6 43 (xx_g σ3 0 1).toNatClampNeg (some y8) → (∀ σ11 : xx_S, σ11 = xx_s σ10 0 1 ((xx_g σ10 0 1) + (1 : Int32)) → Q ((xx_g σ11 0 1) - (1 : Int32)) σ11))))))))))))))
abbrev xxr_gleaner (N : Nat) : Room := { frames := 5, cells := N, slots := 64 * N, locals := 104 }
set_option maxHeartbeats 4000000 in
set_option maxRecDepth 100000 in
theorem xxt_gleaner (l : Launch) {N : Nat} {D : va_G} {E : Nat → ClassId} {A : Nat → Prop} {ad sk : Nat → Nat}  (a1 : Int32) (a2 : Int32) (σ : xx_S) {Q : Int32 → xx_S → Prop} (hw : xxw_gleaner N a1 a2 σ Q) :
    Met l yX0_gleaner (ws_ yX0_gleaner cX0_gleaner 3 (some .int)) (xxr_gleaner N) (va_Pc [.ref (ad 0), .int a1, .int a2] (fun U => xx_V D E A ad sk σ U U.heap)) (va_Qi Q (fun u t => xx_W D E A ad sk u t t.heap) A) N (64 * N) A := by
  refine gg_entry (W0 := fun s H => xx_V D E A ad sk σ s H) (by decide) (Nat.le_of_ble_eq_true rfl) ?_
  intro p e s m args below meth c C0 hV ls hl
  have C0 : gg_C p s m args meth c RX0 cX0_gleaner 3 (some .int) := C0
  obtain ⟨hx, hb, hml, hown, hts, hr, hlocks⟩ := id C0
  have hl : lv_has ls 3 [(0, .ref (ad 0)), (1, .int a1), (2, .int a2)] := hl
  have hS : va_S A s.heap s.heap [] := va_S.rf
  have hC : 0 ≤ N := Nat.zero_le _
  have hA : xx_A sk A s := hV.2
  have hW : xx_W D E A ad sk σ s s.heap := hV.1
  unfold xxw_gleaner at hw
  refine lv_iload_n hx hb dX0_gleaner_0 rfl (lv_at hl 1 rfl) ?_
  refine lv_i2l (v := (a1).toInt64) hx hb dX0_gleaner_1 rfl ?_
  refine lv_lconst (v := (0 : Int64)) hx hb dX0_gleaner_2 (by decide) ?_
  refine lv_ldc2 (own := RX0) (v := (5 : Int64)) hx hb hown (hts _ q138) dX0_gleaner_3 ?_
  refine xx_aS (k := 0) (n1 := 0) ⟨hx, hb, hml, hown, hts⟩ hA (xxt_in l _ _ _ _ hw) (va_cwS 3 hts (lw_S q139 q140 q103 q141) rfl rfl rfl cd_X0_in.2 ⟨Nat.le_of_ble_eq_true rfl, Nat.le_of_ble_eq_true rfl⟩) hW hS rfl hl.1 rfl (Nat.le_of_ble_eq_true rfl) dX0_gleaner_6 ⟨hC, Nat.mul_le_mul_left 64 hC⟩ (fun r2 σ1 H locs hw hW hS => ?_)
  obtain ⟨hz_r2, hw⟩ := hw
  refine lv_if_eq (tgt := 24) hx hb dX0_gleaner_9 (by decide) (fun c14 => ?_) (fun c14 => ?_)
  · have hw := hw.1 c14
    refine lv_bipush (v := (-2 : Int32)) hx hb dX0_gleaner_24 (by decide) ?_
    exact W.widen hC (Nat.mul_le_mul_left 64 hC) (gg_iret (xx_mv D E A ad sk) C0 hW hS hw dX0_gleaner_26)
  · have hw := hw.2 c14
    refine lv_iload_n hx hb dX0_gleaner_12 rfl (lv_at hl 2 rfl) ?_
    refine lv_i2l (v := (a2).toInt64) hx hb dX0_gleaner_13 rfl ?_
    refine lv_lconst (v := (0 : Int64)) hx hb dX0_gleaner_14 (by decide) ?_
    refine lv_ldc2 (own := RX0) (v := (9 : Int64)) hx hb hown (hts _ q142) dX0_gleaner_15 ?_
    refine xx_aS (k := 0) (n1 := 0) ⟨hx, hb, hml, hown, hts⟩ hA (xxt_in l _ _ _ _ hw) (va_cwS 3 hts (lw_S q139 q140 q103 q141) rfl rfl rfl cd_X0_in.2 ⟨Nat.le_of_ble_eq_true rfl, Nat.le_of_ble_eq_true rfl⟩) hW hS rfl hl.1 rfl (Nat.le_of_ble_eq_true rfl) dX0_gleaner_18 ⟨hC, Nat.mul_le_mul_left 64 hC⟩ (fun r4 σ3 H locs hw hW hS => ?_)
    obtain ⟨hz_r4, hw⟩ := hw
    refine lv_if_ne (tgt := 27) hx hb dX0_gleaner_21 (by decide) (fun c13 => ?_) (fun c13 => ?_)
    · have hw := hw.2 c13
      refine lv_aload_n hx hb dX0_gleaner_27 rfl (lv_at hl 0 rfl) ?_
      refine xx_geti hx hb hts hown hW 1 (by decide) q745 dX0_gleaner_28 ?_
      refine lv_iconst (v := (5 : Int32)) hx hb dX0_gleaner_31 (by decide) ?_
      refine lv_icmp_ne (tgt := 38) hx hb dX0_gleaner_32 (by decide) (fun c12 => ?_) (fun c12 => ?_)
      · have hw := hw.2 c12
        refine lv_aload_n hx hb dX0_gleaner_38 rfl (lv_at hl 0 rfl) ?_
        refine xx_getr hx hb hts hown hW 0 43 (by decide) q744 dX0_gleaner_39 ?_
        refine lv_aload_n hx hb dX0_gleaner_42 rfl (lv_at hl 0 rfl) ?_
        refine xx_geti hx hb hts hown hW 1 (by decide) q745 dX0_gleaner_43 ?_
        refine lv_iload_n hx hb dX0_gleaner_46 rfl (lv_at hl 1 rfl) ?_
        refine lv_iload_n hx hb dX0_gleaner_47 rfl (lv_at hl 2 rfl) ?_
        obtain ⟨N5, hC1, hw⟩ := hw
        refine xx_aQ (k := 0) (n1 := N5) ⟨hx, hb, hml, hown, hts⟩ hA (xxt_made l _ _ _ hw) (va_cwS 2 hts (lw_S q143 q144 q103 q145) rfl rfl rfl cd_X0_made.2 ⟨Nat.le_of_ble_eq_true rfl, Nat.le_of_ble_eq_true rfl⟩) hW hS rfl hl.1 rfl (Nat.le_of_ble_eq_true rfl) dX0_gleaner_48 ⟨hC1, Nat.mul_le_mul_left 64 hC1⟩ (fun r7 σ6 H locs hw hW hS => ?_)
        have hC := hC1
        obtain ⟨y8, ey8, hw⟩ := hw
        subst ey8
        obtain ⟨hin, k9, nk9, ak9, hgl, hw⟩ := hw
        refine xx_astF hx hb hA.1 hW hS hin hgl dX0_gleaner_51 (fun H locs hW hS => ?_)
        obtain ⟨σ10, eσ10⟩ : ∃ z, z = xx_rs σ6 43 (xx_g σ3 0 1).toNatClampNeg (some y8) := ⟨_, rfl⟩
        rw [← eσ10] at hW
        have hw := hw σ10 eσ10
        refine lv_aload_n hx hb dX0_gleaner_52 rfl (lv_at hl 0 rfl) ?_
        refine lv_dup hx hb dX0_gleaner_53 rfl ?_
        refine xx_geti hx hb hts hown hW 1 (by decide) q745 dX0_gleaner_54 ?_
        refine lv_iconst (v := (1 : Int32)) hx hb dX0_gleaner_57 (by decide) ?_
        refine lv_iadd hx hb dX0_gleaner_58 ?_
        refine xx_puti hx hb hts hown hW hS 1 (by decide) q745 rfl rfl rfl dX0_gleaner_59 (fun H locs hW hS => ?_)
        obtain ⟨σ11, eσ11⟩ : ∃ z, z = xx_s σ10 0 1 ((xx_g σ10 0 1) + (1 : Int32)) := ⟨_, rfl⟩
        rw [← eσ11] at hW
        have hw := hw σ11 eσ11
        refine lv_aload_n hx hb dX0_gleaner_62 rfl (lv_at hl 0 rfl) ?_
        refine xx_geti hx hb hts hown hW 1 (by decide) q745 dX0_gleaner_63 ?_
        refine lv_iconst (v := (1 : Int32)) hx hb dX0_gleaner_66 (by decide) ?_
        refine lv_isub hx hb dX0_gleaner_67 ?_
        exact W.widen hC (Nat.mul_le_mul_left 64 hC) (gg_iret (xx_mv D E A ad sk) C0 hW hS hw dX0_gleaner_68)
      · have hw := hw.1 c12
        refine lv_bipush (v := (-4 : Int32)) hx hb dX0_gleaner_35 (by decide) ?_
        exact W.widen hC (Nat.mul_le_mul_left 64 hC) (gg_iret (xx_mv D E A ad sk) C0 hW hS hw dX0_gleaner_37)
    · have hw := hw.1 c13
      refine lv_bipush (v := (-2 : Int32)) hx hb dX0_gleaner_24 (by decide) ?_
      exact W.widen hC (Nat.mul_le_mul_left 64 hC) (gg_iret (xx_mv D E A ad sk) C0 hW hS hw dX0_gleaner_26)
theorem cd_X0_asksPlace : yX0_asksPlace.cls = RX0 ∧ yX0_asksPlace.cls ≠ "java/lang/invoke/MethodHandle" ∧ yX0_asksPlace.cls ≠ "java/lang/invoke/VarHandle" ∧ (parseMethodDescriptor yX0_asksPlace.desc).map (fun d => d.parameters.length) = some 2 := by decide +kernel
/-! GleanersForGaps.asksPlace(II)V -/
def xxw_asksPlaceN_9 (N : Nat) (Q : xx_S → Prop)  (C : Nat) (σ : xx_S) : Prop :=
    False
def xxw_asksPlaceN (N : Nat) (a0 : Int32) (a1 : Int32) (σ : xx_S) (Q : xx_S → Prop) : Prop :=
    (((a0 < 0) → xxw_asksPlaceN_9 N Q 0 σ) ∧ (¬ (a0 < 0) → (((a0 < a1) → Q σ) ∧ (¬ (a0 < a1) → xxw_asksPlaceN_9 N Q 0 σ))))
abbrev xxr_asksPlaceN (N : Nat) : Room := { frames := 0, cells := N, slots := 64 * N, locals := 0 }
set_option maxHeartbeats 4000000 in
set_option maxRecDepth 100000 in
theorem xxk_asksPlaceN_9 {p : Program} {l : Launch} {e : Env} {s : State} {m : MethodId} {args : Array Value} {below : List Frame} {meth : Method} {c : Code} {N : Nat} {D : va_G} {E : Nat → ClassId} {A : Nat → Prop} {ad sk : Nat → Nat} {Q : xx_S → Prop}   (C0 : gg_C p s m args meth c RX0 cX0_asksPlace 2 none) (hA : xx_A sk A s) :
    ∀ (C : Nat) (σ : xx_S) (H : Heap) (locs : List Loc) (ls : Array Slot), xxw_asksPlaceN_9 N Q C σ → C ≤ N → xx_W D E A ad sk σ s H → va_S A s.heap H locs → lv_has ls 2 [] → W p l e (xxr_asksPlaceN N) s m args below meth c H locs C (64 * C) (MQ below (va_Qv Q (fun u t => xx_W D E A ad sk u t t.heap) A) args s N (64 * N) A) (F0 m 9 ls []) := by
  obtain ⟨hx, hb, hml, hown, hts, hr, hlocks⟩ := id C0
  intro C σ H locs ls hw hC hW hS hl
  unfold xxw_asksPlaceN_9 at hw
  exact hw.elim
set_option maxHeartbeats 4000000 in
set_option maxRecDepth 100000 in
theorem xxt_asksPlaceN (l : Launch) {N : Nat} {D : va_G} {E : Nat → ClassId} {A : Nat → Prop} {ad sk : Nat → Nat}  (a0 : Int32) (a1 : Int32) (σ : xx_S) {Q : xx_S → Prop} (hw : xxw_asksPlaceN N a0 a1 σ Q) :
    Met l yX0_asksPlace (ws_ yX0_asksPlace cX0_asksPlace 2 none) (xxr_asksPlaceN N) (va_Pc [.int a0, .int a1] (fun U => xx_V D E A ad sk σ U U.heap)) (va_Qv Q (fun u t => xx_W D E A ad sk u t t.heap) A) N (64 * N) A := by
  refine gg_entry (W0 := fun s H => xx_V D E A ad sk σ s H) (by decide) (Nat.le_of_ble_eq_true rfl) ?_
  intro p e s m args below meth c C0 hV ls hl
  have C0 : gg_C p s m args meth c RX0 cX0_asksPlace 2 none := C0
  obtain ⟨hx, hb, hml, hown, hts, hr, hlocks⟩ := id C0
  have hl : lv_has ls 2 [(0, .int a0), (1, .int a1)] := hl
  have hS : va_S A s.heap s.heap [] := va_S.rf
  have hC : 0 ≤ N := Nat.zero_le _
  have hA : xx_A sk A s := hV.2
  have hW : xx_W D E A ad sk σ s s.heap := hV.1
  unfold xxw_asksPlaceN at hw
  refine lv_iload_n hx hb dX0_asksPlace_0 rfl (lv_at hl 0 rfl) ?_
  refine lv_if_lt (tgt := 9) hx hb dX0_asksPlace_1 (by decide) (fun c2 => ?_) (fun c2 => ?_)
  · have hw := hw.1 c2
    exact xxk_asksPlaceN_9  C0 hA  0 σ _ _ _ hw hC hW hS (lv_sub hl [] rfl)
  · have hw := hw.2 c2
    refine lv_iload_n hx hb dX0_asksPlace_4 rfl (lv_at hl 0 rfl) ?_
    refine lv_iload_n hx hb dX0_asksPlace_5 rfl (lv_at hl 1 rfl) ?_
    refine lv_icmp_lt (tgt := 17) hx hb dX0_asksPlace_6 (by decide) (fun c1 => ?_) (fun c1 => ?_)
    · have hw := hw.1 c1
      exact W.widen hC (Nat.mul_le_mul_left 64 hC) (gg_vret (xx_mv D E A ad sk) C0 hW hS hw dX0_asksPlace_17)
    · have hw := hw.2 c1
      exact xxk_asksPlaceN_9  C0 hA  0 σ _ _ _ hw hC hW hS (lv_sub hl [] rfl)
theorem cd_X0_lengthOf : yX0_lengthOf.cls = RX0 ∧ yX0_lengthOf.cls ≠ "java/lang/invoke/MethodHandle" ∧ yX0_lengthOf.cls ≠ "java/lang/invoke/VarHandle" ∧ (parseMethodDescriptor yX0_lengthOf.desc).map (fun d => d.parameters.length) = some 2 := by decide +kernel
/-! GleanersForGaps.lengthOf(·Ljava/lang/Object;I)I -/
def xxw_lengthOfN (N : Nat) (a0 : Nat) (a1 : Int32) (σ : xx_S) (Q : Int32 → xx_S → Prop) : Prop :=
    ((a1 = (0 : Int32) → ∃ (n1 : Nat) (f2 : Nat → Int32), xx_ob σ a0 0 n1 f2 ∧ ∃ (n3 : Nat) (f4 : Nat → Int32), xx_ob σ a0 0 n3 f4 ∧ Q (nI n3) σ) ∧ (a1 = (1 : Int32) → ∃ (n6 : Nat) (f7 : Nat → Int32), xx_ob σ a0 1 n6 f7 ∧ ∃ (n8 : Nat) (f9 : Nat → Int32), xx_ob σ a0 1 n8 f9 ∧ Q (nI n8) σ) ∧ (¬ a1 = (0 : Int32) ∧ ¬ a1 = (1 : Int32) → ∃ (n11 : Nat) (f12 : Nat → Int32), xx_ob σ a0 2 n11 f12 ∧ ∃ (n13 : Nat) (f14 : Nat → Int32), xx_ob σ a0 2 n13 f14 ∧ Q (nI n13) σ))
abbrev xxr_lengthOfN (N : Nat) : Room := { frames := 0, cells := N, slots := 64 * N, locals := 0 }
set_option maxHeartbeats 4000000 in
set_option maxRecDepth 100000 in
theorem xxt_lengthOfN (l : Launch) {N : Nat} {D : va_G} {E : Nat → ClassId} {A : Nat → Prop} {ad sk : Nat → Nat}  (a0 : Nat) (a1 : Int32) (σ : xx_S) {Q : Int32 → xx_S → Prop} (hw : xxw_lengthOfN N a0 a1 σ Q) :
    Met l yX0_lengthOf (ws_ yX0_lengthOf cX0_lengthOf 2 (some .int)) (xxr_lengthOfN N) (va_Pc [.ref a0, .int a1] (fun U => xx_V D E A ad sk σ U U.heap)) (va_Qi Q (fun u t => xx_W D E A ad sk u t t.heap) A) N (64 * N) A := by
  refine gg_entry (W0 := fun s H => xx_V D E A ad sk σ s H) (by decide) (Nat.le_of_ble_eq_true rfl) ?_
  intro p e s m args below meth c C0 hV ls hl
  have C0 : gg_C p s m args meth c RX0 cX0_lengthOf 2 (some .int) := C0
  obtain ⟨hx, hb, hml, hown, hts, hr, hlocks⟩ := id C0
  have hl : lv_has ls 2 [(0, .ref a0), (1, .int a1)] := hl
  have hS : va_S A s.heap s.heap [] := va_S.rf
  have hC : 0 ≤ N := Nat.zero_le _
  have hA : xx_A sk A s := hV.2
  have hW : xx_W D E A ad sk σ s s.heap := hV.1
  unfold xxw_lengthOfN at hw
  refine lv_iload_n hx hb dX0_lengthOf_0 rfl (lv_at hl 1 rfl) ?_
  by_cases e5 : a1 = (0 : Int32)
  · obtain ⟨hw, -⟩ := hw
    have hw := hw e5
    refine lv_lookup (off := 27) (tgt := 28) hx hb dX0_lengthOf_1 (by decide) (by rw [e5]; rfl) (by decide) ?_
    refine lv_aload_n hx hb dX0_lengthOf_28 rfl (lv_at hl 0 rfl) ?_
    obtain ⟨n1, f2, hO, hw⟩ := hw
    refine xx_ocast hx hb hts hown hO q1037 hW dX0_lengthOf_29 ?_
    obtain ⟨n3, f4, hO, hw⟩ := hw
    refine xx_oalen hx hb hO hW dX0_lengthOf_32 ?_
    exact W.widen hC (Nat.mul_le_mul_left 64 hC) (gg_iret (xx_mv D E A ad sk) C0 hW hS hw dX0_lengthOf_33)
  obtain ⟨-, hw⟩ := hw
  by_cases e10 : a1 = (1 : Int32)
  · obtain ⟨hw, -⟩ := hw
    have hw := hw e10
    refine lv_lookup (off := 33) (tgt := 34) hx hb dX0_lengthOf_1 (by decide) (by rw [e10]; rfl) (by decide) ?_
    refine lv_aload_n hx hb dX0_lengthOf_34 rfl (lv_at hl 0 rfl) ?_
    obtain ⟨n6, f7, hO, hw⟩ := hw
    refine xx_ocast hx hb hts hown hO q1038 hW dX0_lengthOf_35 ?_
    obtain ⟨n8, f9, hO, hw⟩ := hw
    refine xx_oalen hx hb hO hW dX0_lengthOf_38 ?_
    exact W.widen hC (Nat.mul_le_mul_left 64 hC) (gg_iret (xx_mv D E A ad sk) C0 hW hS hw dX0_lengthOf_39)
  obtain ⟨-, hw⟩ := hw
  have hw := hw ⟨e5, e10⟩
  refine lv_lookup (off := 39) (tgt := 40) hx hb dX0_lengthOf_1 (by decide) (gg_lkout _ _ _ (fun q hq => ?_)) (by decide) ?_
  · simp only [List.mem_cons, List.not_mem_nil, or_false] at hq
    rcases hq with h | h <;> subst h
    · exact e5
    · exact e10
  refine lv_aload_n hx hb dX0_lengthOf_40 rfl (lv_at hl 0 rfl) ?_
  obtain ⟨n11, f12, hO, hw⟩ := hw
  refine xx_ocast hx hb hts hown hO q1042 hW dX0_lengthOf_41 ?_
  obtain ⟨n13, f14, hO, hw⟩ := hw
  refine xx_oalen hx hb hO hW dX0_lengthOf_44 ?_
  exact W.widen hC (Nat.mul_le_mul_left 64 hC) (gg_iret (xx_mv D E A ad sk) C0 hW hS hw dX0_lengthOf_45)
theorem cd_X0_sortOf : yX0_sortOf.cls = RX0 ∧ yX0_sortOf.cls ≠ "java/lang/invoke/MethodHandle" ∧ yX0_sortOf.cls ≠ "java/lang/invoke/VarHandle" ∧ (parseMethodDescriptor yX0_sortOf.desc).map (fun d => d.parameters.length) = some 1 := by decide +kernel
/-! GleanersForGaps.sortOf(·Ljava/lang/Object;)I -/
def xxw_sortOf (N : Nat) (a0 : Nat) (σ : xx_S) (Q : Int32 → xx_S → Prop) : Prop :=
    ∃ (so3 n1 : Nat) (f2 : Nat → Int32), xx_ob σ a0 so3 n1 f2 ∧ ((((if so3 = 0 then (1 : Int32) else 0) = 0) → ∃ (so6 n4 : Nat) (f5 : Nat → Int32), xx_ob σ a0 so6 n4 f5 ∧ ((((if so6 = 1 then (1 : Int32) else 0) = 0) → Q (2 : Int32) σ) ∧ (¬ ((if so6 = 1 then (1 : Int32) else 0) = 0) → Q (1 : Int32) σ))) ∧ (¬ ((if so3 = 0 then (1 : Int32) else 0) = 0) → Q (0 : Int32) σ))
abbrev xxr_sortOf (N : Nat) : Room := { frames := 0, cells := N, slots := 64 * N, locals := 0 }
set_option maxHeartbeats 4000000 in
set_option maxRecDepth 100000 in
theorem xxt_sortOf (l : Launch) {N : Nat} {D : va_G} {E : Nat → ClassId} {A : Nat → Prop} {ad sk : Nat → Nat}  (a0 : Nat) (σ : xx_S) {Q : Int32 → xx_S → Prop} (hw : xxw_sortOf N a0 σ Q) :
    Met l yX0_sortOf (ws_ yX0_sortOf cX0_sortOf 1 (some .int)) (xxr_sortOf N) (va_Pc [.ref a0] (fun U => xx_V D E A ad sk σ U U.heap)) (va_Qi Q (fun u t => xx_W D E A ad sk u t t.heap) A) N (64 * N) A := by
  refine gg_entry (W0 := fun s H => xx_V D E A ad sk σ s H) (by decide) (Nat.le_of_ble_eq_true rfl) ?_
  intro p e s m args below meth c C0 hV ls hl
  have C0 : gg_C p s m args meth c RX0 cX0_sortOf 1 (some .int) := C0
  obtain ⟨hx, hb, hml, hown, hts, hr, hlocks⟩ := id C0
  have hl : lv_has ls 1 [(0, .ref a0)] := hl
  have hS : va_S A s.heap s.heap [] := va_S.rf
  have hC : 0 ≤ N := Nat.zero_le _
  have hA : xx_A sk A s := hV.2
  have hW : xx_W D E A ad sk σ s s.heap := hV.1
  unfold xxw_sortOf at hw
  refine lv_aload_n hx hb dX0_sortOf_0 rfl (lv_at hl 0 rfl) ?_
  obtain ⟨so3, n1, f2, hO, hw⟩ := hw
  refine xx_oins 0 (by decide) hx hb hts hown hA.1 hO q1037 hW dX0_sortOf_1 ?_
  refine lv_if_eq (tgt := 11) hx hb dX0_sortOf_4 (by decide) (fun c8 => ?_) (fun c8 => ?_)
  · have hw := hw.1 c8
    refine lv_aload_n hx hb dX0_sortOf_11 rfl (lv_at hl 0 rfl) ?_
    obtain ⟨so6, n4, f5, hO, hw⟩ := hw
    refine xx_oins 1 (by decide) hx hb hts hown hA.1 hO q1038 hW dX0_sortOf_12 ?_
    refine lv_if_eq (tgt := 22) hx hb dX0_sortOf_15 (by decide) (fun c7 => ?_) (fun c7 => ?_)
    · have hw := hw.1 c7
      refine lv_iconst (v := (2 : Int32)) hx hb dX0_sortOf_22 (by decide) ?_
      exact W.widen hC (Nat.mul_le_mul_left 64 hC) (gg_iret (xx_mv D E A ad sk) C0 hW hS hw dX0_sortOf_23)
    · have hw := hw.2 c7
      refine lv_iconst (v := (1 : Int32)) hx hb dX0_sortOf_18 (by decide) ?_
      refine lv_goto (tgt := 23) hx hb dX0_sortOf_19 (by decide) ?_
      exact W.widen hC (Nat.mul_le_mul_left 64 hC) (gg_iret (xx_mv D E A ad sk) C0 hW hS hw dX0_sortOf_23)
  · have hw := hw.2 c8
    refine lv_iconst (v := (0 : Int32)) hx hb dX0_sortOf_7 (by decide) ?_
    refine lv_goto (tgt := 23) hx hb dX0_sortOf_8 (by decide) ?_
    exact W.widen hC (Nat.mul_le_mul_left 64 hC) (gg_iret (xx_mv D E A ad sk) C0 hW hS hw dX0_sortOf_23)
theorem cd_X0_item : yX0_item.cls = RX0 ∧ yX0_item.cls ≠ "java/lang/invoke/MethodHandle" ∧ yX0_item.cls ≠ "java/lang/invoke/VarHandle" ∧ (parseMethodDescriptor yX0_item.desc).map (fun d => d.parameters.length) = some 3 := by decide +kernel
/-! GleanersForGaps.item(·Ljava/lang/Object;II)I -/
def xxw_itemN (N : Nat) (a0 : Nat) (a1 : Int32) (a2 : Int32) (σ : xx_S) (Q : Int32 → xx_S → Prop) : Prop :=
    ((a1 = (0 : Int32) → ∃ (n1 : Nat) (f2 : Nat → Int32), xx_ob σ a0 0 n1 f2 ∧ ∃ (n3 : Nat) (f4 : Nat → Int32), xx_ob σ a0 0 n3 f4 ∧ (∃ N5 : Nat, 0 + N5 ≤ N ∧ xxw_asksPlaceN N5 a2 (nI n3) σ (fun σ6 => ∃ (n7 : Nat) (f8 : Nat → Int32), xx_ob σ6 a0 0 n7 f8 ∧ ∃ (n9 : Nat) (f10 : Nat → Int32), xx_ob σ6 a0 0 n9 f10 ∧ vp_in a2 n9 ∧ Q (f10 a2.toNatClampNeg) σ6))) ∧ (a1 = (1 : Int32) → ∃ (n12 : Nat) (f13 : Nat → Int32), xx_ob σ a0 1 n12 f13 ∧ ∃ (n14 : Nat) (f15 : Nat → Int32), xx_ob σ a0 1 n14 f15 ∧ (∃ N16 : Nat, 0 + N16 ≤ N ∧ xxw_asksPlaceN N16 a2 (nI n14) σ (fun σ17 => ∃ (n18 : Nat) (f19 : Nat → Int32), xx_ob σ17 a0 1 n18 f19 ∧ ∃ (n20 : Nat) (f21 : Nat → Int32), xx_ob σ17 a0 1 n20 f21 ∧ vp_in a2 n20 ∧ Q (f21 a2.toNatClampNeg) σ17))) ∧ (¬ a1 = (0 : Int32) ∧ ¬ a1 = (1 : Int32) → ∃ (n23 : Nat) (f24 : Nat → Int32), xx_ob σ a0 2 n23 f24 ∧ ∃ (n25 : Nat) (f26 : Nat → Int32), xx_ob σ a0 2 n25 f26 ∧ (∃ N27 : Nat, 0 + N27 ≤ N ∧ xxw_asksPlaceN N27 a2 (nI n25) σ (fun σ28 => ∃ (n29 : Nat) (f30 : Nat → Int32), xx_ob σ28 a0 2 n29 f30 ∧ ∃ (n31 : Nat) (f32 : Nat → Int32), xx_ob σ28 a0 2 n31 f32 ∧ vp_in a2 n31 ∧ Q (f32 a2.toNatClampNeg) σ28))))
abbrev xxr_itemN (N : Nat) : Room := { frames := 1, cells := N, slots := 64 * N, locals := 21 }
set_option maxHeartbeats 4000000 in
set_option maxRecDepth 100000 in
theorem xxt_itemN (l : Launch) {N : Nat} {D : va_G} {E : Nat → ClassId} {A : Nat → Prop} {ad sk : Nat → Nat}  (a0 : Nat) (a1 : Int32) (a2 : Int32) (σ : xx_S) {Q : Int32 → xx_S → Prop} (hw : xxw_itemN N a0 a1 a2 σ Q) :
    Met l yX0_item (ws_ yX0_item cX0_item 3 (some .int)) (xxr_itemN N) (va_Pc [.ref a0, .int a1, .int a2] (fun U => xx_V D E A ad sk σ U U.heap)) (va_Qi Q (fun u t => xx_W D E A ad sk u t t.heap) A) N (64 * N) A := by
  refine gg_entry (W0 := fun s H => xx_V D E A ad sk σ s H) (by decide) (Nat.le_of_ble_eq_true rfl) ?_
  intro p e s m args below meth c C0 hV ls hl
  have C0 : gg_C p s m args meth c RX0 cX0_item 3 (some .int) := C0
  obtain ⟨hx, hb, hml, hown, hts, hr, hlocks⟩ := id C0
  have hl : lv_has ls 3 [(0, .ref a0), (1, .int a1), (2, .int a2)] := hl
  have hS : va_S A s.heap s.heap [] := va_S.rf
  have hC : 0 ≤ N := Nat.zero_le _
  have hA : xx_A sk A s := hV.2
  have hW : xx_W D E A ad sk σ s s.heap := hV.1
  unfold xxw_itemN at hw
  refine lv_iload_n hx hb dX0_item_0 rfl (lv_at hl 1 rfl) ?_
  by_cases e11 : a1 = (0 : Int32)
  · obtain ⟨hw, -⟩ := hw
    have hw := hw e11
    refine lv_lookup (off := 27) (tgt := 28) hx hb dX0_item_1 (by decide) (by rw [e11]; rfl) (by decide) ?_
    refine lv_iload_n hx hb dX0_item_28 rfl (lv_at hl 2 rfl) ?_
    refine lv_aload_n hx hb dX0_item_29 rfl (lv_at hl 0 rfl) ?_
    obtain ⟨n1, f2, hO, hw⟩ := hw
    refine xx_ocast hx hb hts hown hO q1037 hW dX0_item_30 ?_
    obtain ⟨n3, f4, hO, hw⟩ := hw
    refine xx_oalen hx hb hO hW dX0_item_33 ?_
    obtain ⟨N5, hC1, hw⟩ := hw
    refine xx_aSV (k := 0) (n1 := N5) ⟨hx, hb, hml, hown, hts⟩ hA (xxt_asksPlaceN l _ _ _ hw) (va_cwS 2 hts (lw_S q1050 q1051 q103 q1052) rfl rfl rfl cd_X0_asksPlace.2 ⟨Nat.le_of_ble_eq_true rfl, Nat.le_of_ble_eq_true rfl⟩) hW hS rfl hl.1 rfl (Nat.le_of_ble_eq_true rfl) dX0_item_34 ⟨hC1, Nat.mul_le_mul_left 64 hC1⟩ (fun σ6 H locs hw hW hS => ?_)
    have hC := hC1
    refine lv_aload_n hx hb dX0_item_37 rfl (lv_at hl 0 rfl) ?_
    obtain ⟨n7, f8, hO, hw⟩ := hw
    refine xx_ocast hx hb hts hown hO q1037 hW dX0_item_38 ?_
    refine lv_iload_n hx hb dX0_item_41 rfl (lv_at hl 2 rfl) ?_
    obtain ⟨n9, f10, hO, hw⟩ := hw
    obtain ⟨hin, hw⟩ := hw
    refine xx_oald0 hx hb hO hin hW dX0_item_42 ?_
    exact W.widen hC (Nat.mul_le_mul_left 64 hC) (gg_iret (xx_mv D E A ad sk) C0 hW hS hw dX0_item_43)
  obtain ⟨-, hw⟩ := hw
  by_cases e22 : a1 = (1 : Int32)
  · obtain ⟨hw, -⟩ := hw
    have hw := hw e22
    refine lv_lookup (off := 43) (tgt := 44) hx hb dX0_item_1 (by decide) (by rw [e22]; rfl) (by decide) ?_
    refine lv_iload_n hx hb dX0_item_44 rfl (lv_at hl 2 rfl) ?_
    refine lv_aload_n hx hb dX0_item_45 rfl (lv_at hl 0 rfl) ?_
    obtain ⟨n12, f13, hO, hw⟩ := hw
    refine xx_ocast hx hb hts hown hO q1038 hW dX0_item_46 ?_
    obtain ⟨n14, f15, hO, hw⟩ := hw
    refine xx_oalen hx hb hO hW dX0_item_49 ?_
    obtain ⟨N16, hC1, hw⟩ := hw
    refine xx_aSV (k := 0) (n1 := N16) ⟨hx, hb, hml, hown, hts⟩ hA (xxt_asksPlaceN l _ _ _ hw) (va_cwS 2 hts (lw_S q1050 q1051 q103 q1052) rfl rfl rfl cd_X0_asksPlace.2 ⟨Nat.le_of_ble_eq_true rfl, Nat.le_of_ble_eq_true rfl⟩) hW hS rfl hl.1 rfl (Nat.le_of_ble_eq_true rfl) dX0_item_50 ⟨hC1, Nat.mul_le_mul_left 64 hC1⟩ (fun σ17 H locs hw hW hS => ?_)
    have hC := hC1
    refine lv_aload_n hx hb dX0_item_53 rfl (lv_at hl 0 rfl) ?_
    obtain ⟨n18, f19, hO, hw⟩ := hw
    refine xx_ocast hx hb hts hown hO q1038 hW dX0_item_54 ?_
    refine lv_iload_n hx hb dX0_item_57 rfl (lv_at hl 2 rfl) ?_
    obtain ⟨n20, f21, hO, hw⟩ := hw
    obtain ⟨hin, hw⟩ := hw
    refine xx_oald1 hx hb hO hin hW dX0_item_58 ?_
    exact W.widen hC (Nat.mul_le_mul_left 64 hC) (gg_iret (xx_mv D E A ad sk) C0 hW hS hw dX0_item_59)
  obtain ⟨-, hw⟩ := hw
  have hw := hw ⟨e11, e22⟩
  refine lv_lookup (off := 59) (tgt := 60) hx hb dX0_item_1 (by decide) (gg_lkout _ _ _ (fun q hq => ?_)) (by decide) ?_
  · simp only [List.mem_cons, List.not_mem_nil, or_false] at hq
    rcases hq with h | h <;> subst h
    · exact e11
    · exact e22
  refine lv_iload_n hx hb dX0_item_60 rfl (lv_at hl 2 rfl) ?_
  refine lv_aload_n hx hb dX0_item_61 rfl (lv_at hl 0 rfl) ?_
  obtain ⟨n23, f24, hO, hw⟩ := hw
  refine xx_ocast hx hb hts hown hO q1042 hW dX0_item_62 ?_
  obtain ⟨n25, f26, hO, hw⟩ := hw
  refine xx_oalen hx hb hO hW dX0_item_65 ?_
  obtain ⟨N27, hC1, hw⟩ := hw
  refine xx_aSV (k := 0) (n1 := N27) ⟨hx, hb, hml, hown, hts⟩ hA (xxt_asksPlaceN l _ _ _ hw) (va_cwS 2 hts (lw_S q1050 q1051 q103 q1052) rfl rfl rfl cd_X0_asksPlace.2 ⟨Nat.le_of_ble_eq_true rfl, Nat.le_of_ble_eq_true rfl⟩) hW hS rfl hl.1 rfl (Nat.le_of_ble_eq_true rfl) dX0_item_66 ⟨hC1, Nat.mul_le_mul_left 64 hC1⟩ (fun σ28 H locs hw hW hS => ?_)
  have hC := hC1
  refine lv_aload_n hx hb dX0_item_69 rfl (lv_at hl 0 rfl) ?_
  obtain ⟨n29, f30, hO, hw⟩ := hw
  refine xx_ocast hx hb hts hown hO q1042 hW dX0_item_70 ?_
  refine lv_iload_n hx hb dX0_item_73 rfl (lv_at hl 2 rfl) ?_
  obtain ⟨n31, f32, hO, hw⟩ := hw
  obtain ⟨hin, hw⟩ := hw
  refine xx_oald2 hx hb hO hin hW dX0_item_74 ?_
  exact W.widen hC (Nat.mul_le_mul_left 64 hC) (gg_iret (xx_mv D E A ad sk) C0 hW hS hw dX0_item_75)
theorem cd_X0_otherwise : yX0_otherwise.cls = RX0 ∧ yX0_otherwise.cls ≠ "java/lang/invoke/MethodHandle" ∧ yX0_otherwise.cls ≠ "java/lang/invoke/VarHandle" ∧ (parseMethodDescriptor yX0_otherwise.desc).map (fun d => d.parameters.length) = some 3 := by decide +kernel
/-! GleanersForGaps.otherwise(·Ljava/lang/Object;II)I -/
def xxw_otherwise_15 (N : Nat) (Q : Int32 → xx_S → Prop)  : Nat → Nat → Int32 → Nat → xx_S → Prop
  | 0, _, _, _, _ => False
  | n + 1, x1, x4, C, σ =>
    (∃ N4 : Nat, C + N4 ≤ N ∧ xxw_sortOf N4 x1 σ (fun r6 σ5 => (∃ N7 : Nat, (C + N4) + N7 ≤ N ∧ xxw_lengthOfN N7 x1 r6 σ5 (fun r9 σ8 => (((r9 ≤ x4) → (xxw_laysBack (0 : Int32) σ8 (fun σ10 => Q (-1 : Int32) σ10))) ∧ (¬ (r9 ≤ x4) → (∃ N11 : Nat, ((C + N4) + N7) + N11 ≤ N ∧ xxw_sortOf N11 x1 σ8 (fun r13 σ12 => (∃ N14 : Nat, (((C + N4) + N7) + N11) + N14 ≤ N ∧ xxw_itemN N14 x1 r13 x4 σ12 (fun r16 σ15 => vp_in x4 24 ∧ (((r16 = (xx_g σ15 4 x4.toNatClampNeg)) → xxw_otherwise_15 N Q n x1 (x4 + (1 : Int32)) ((((C + N4) + N7) + N11) + N14) σ15) ∧ (¬ (r16 = (xx_g σ15 4 x4.toNatClampNeg)) → (xxw_laysBack (0 : Int32) σ15 (fun σ17 => Q x4 σ17))))))))))))))
def xxw_otherwise (N : Nat) (a1 : Nat) (a2 : Int32) (a3 : Int32) (σ : xx_S) (Q : Int32 → xx_S → Prop) : Prop :=
    (xxw_keeps (0 : Int32) σ (fun σ1 => (xxw_gleans a2 a3 σ1 (fun r3 σ2 => ∃ k9, xxw_otherwise_15 N Q k9 a1 (0 : Int32) 0 σ2))))
abbrev xxr_otherwise (N : Nat) : Room := { frames := 206, cells := N, slots := 64 * N, locals := 6102 }
set_option maxHeartbeats 4000000 in
set_option maxRecDepth 100000 in
theorem xxk_otherwise_15 {p : Program} {l : Launch} {e : Env} {s : State} {m : MethodId} {args : Array Value} {below : List Frame} {meth : Method} {c : Code} {N : Nat} {D : va_G} {E : Nat → ClassId} {A : Nat → Prop} {ad sk : Nat → Nat} {Q : Int32 → xx_S → Prop}   (C0 : gg_C p s m args meth c RX0 cX0_otherwise 7 (some .int)) (hA : xx_A sk A s) :
    ∀ n : Nat, ∀ (x1 : Nat) (x4 : Int32) (C : Nat) (σ : xx_S) (H : Heap) (locs : List Loc) (ls : Array Slot), xxw_otherwise_15 N Q n x1 x4 C σ → C ≤ N → xx_W D E A ad sk σ s H → va_S A s.heap H locs → lv_has ls 7 [(0, .ref (ad 0)), (1, .ref x1), (4, .int x4)] → W p l e (xxr_otherwise N) s m args below meth c H locs C (64 * C) (MQ below (va_Qi Q (fun u t => xx_W D E A ad sk u t t.heap) A) args s N (64 * N) A) (F0 m 15 ls []) := by
  obtain ⟨hx, hb, hml, hown, hts, hr, hlocks⟩ := id C0
  intro n
  induction n with
  | zero =>
    intro x1 x4 C σ H locs ls hw hC hW hS hl
    exact absurd hw (by unfold xxw_otherwise_15; exact id)
  | succ n ih =>
    intro x1 x4 C σ H locs ls hw hC hW hS hl
    unfold xxw_otherwise_15 at hw
    refine lv_iload hx hb dX0_otherwise_15 (lv_at hl 2 rfl) ?_
    refine lv_aload_n hx hb dX0_otherwise_17 rfl (lv_at hl 1 rfl) ?_
    refine lv_aload_n hx hb dX0_otherwise_18 rfl (lv_at hl 1 rfl) ?_
    obtain ⟨N4, hC1, hw⟩ := hw
    refine xx_aS (k := C) (n1 := N4) ⟨hx, hb, hml, hown, hts⟩ hA (xxt_sortOf l _ _ hw) (va_cwS 1 hts (lw_S q1034 q1035 q103 q1036) rfl rfl rfl cd_X0_sortOf.2 ⟨Nat.le_of_ble_eq_true rfl, Nat.le_of_ble_eq_true rfl⟩) hW hS rfl hl.1 rfl (Nat.le_of_ble_eq_true rfl) dX0_otherwise_19 ⟨hC1, Nat.mul_le_mul_left 64 hC1⟩ (fun r6 σ5 H locs hw hW hS => ?_)
    have hC := hC1
    obtain ⟨N7, hC1, hw⟩ := hw
    refine xx_aS (k := (C + N4)) (n1 := N7) ⟨hx, hb, hml, hown, hts⟩ hA (xxt_lengthOfN l _ _ _ hw) (va_cwS 2 hts (lw_S q1039 q1040 q103 q1041) rfl rfl rfl cd_X0_lengthOf.2 ⟨Nat.le_of_ble_eq_true rfl, Nat.le_of_ble_eq_true rfl⟩) hW hS rfl hl.1 rfl (Nat.le_of_ble_eq_true rfl) dX0_otherwise_22 ⟨hC1, Nat.mul_le_mul_left 64 hC1⟩ (fun r9 σ8 H locs hw hW hS => ?_)
    have hC := hC1
    refine lv_icmp_ge (tgt := 66) hx hb dX0_otherwise_25 (by decide) (fun c19 => ?_) (fun c19 => ?_)
    · have hw := hw.1 c19
      refine lv_iconst (v := (-1 : Int32)) hx hb dX0_otherwise_66 (by decide) ?_
      refine lv_istore (lv' := [(4, .int (-1 : Int32)), (0, .ref (ad 0)), (1, .ref x1)]) hx hb dX0_otherwise_67 hl (by decide) rfl (fun ls hl => ?_)
      refine lv_aload_n hx hb dX0_otherwise_69 rfl (lv_at hl 1 rfl) ?_
      refine lv_iconst (v := (0 : Int32)) hx hb dX0_otherwise_70 (by decide) ?_
      refine xx_aVV (k := ((C + N4) + N7)) (n1 := 0) ⟨hx, hb, hml, hown, hts⟩ hA (xxt_laysBack l _ _ hw) (cwV 1 hts (lw_V q973 q975 qs42 q103 q976) rfl rfl rfl cd_X0_laysBack ⟨Nat.le_of_ble_eq_true rfl, Nat.le_of_ble_eq_true rfl⟩) hW (xx_recv hW) hS rfl hl.1 rfl (Nat.le_of_ble_eq_true rfl) dX0_otherwise_71 ⟨hC, Nat.mul_le_mul_left 64 hC⟩ (fun σ10 H locs hw hW hS => ?_)
      refine lv_iload hx hb dX0_otherwise_74 (lv_at hl 0 rfl) ?_
      exact W.widen hC (Nat.mul_le_mul_left 64 hC) (gg_iret (xx_mv D E A ad sk) C0 hW hS hw dX0_otherwise_76)
    · have hw := hw.2 c19
      refine lv_aload_n hx hb dX0_otherwise_28 rfl (lv_at hl 1 rfl) ?_
      refine lv_aload_n hx hb dX0_otherwise_29 rfl (lv_at hl 1 rfl) ?_
      obtain ⟨N11, hC1, hw⟩ := hw
      refine xx_aS (k := ((C + N4) + N7)) (n1 := N11) ⟨hx, hb, hml, hown, hts⟩ hA (xxt_sortOf l _ _ hw) (va_cwS 1 hts (lw_S q1034 q1035 q103 q1036) rfl rfl rfl cd_X0_sortOf.2 ⟨Nat.le_of_ble_eq_true rfl, Nat.le_of_ble_eq_true rfl⟩) hW hS rfl hl.1 rfl (Nat.le_of_ble_eq_true rfl) dX0_otherwise_30 ⟨hC1, Nat.mul_le_mul_left 64 hC1⟩ (fun r13 σ12 H locs hw hW hS => ?_)
      have hC := hC1
      refine lv_iload hx hb dX0_otherwise_33 (lv_at hl 2 rfl) ?_
      obtain ⟨N14, hC1, hw⟩ := hw
      refine xx_aS (k := (((C + N4) + N7) + N11)) (n1 := N14) ⟨hx, hb, hml, hown, hts⟩ hA (xxt_itemN l _ _ _ _ hw) (va_cwS 3 hts (lw_S q1047 q1048 q103 q1049) rfl rfl rfl cd_X0_item.2 ⟨Nat.le_of_ble_eq_true rfl, Nat.le_of_ble_eq_true rfl⟩) hW hS rfl hl.1 rfl (Nat.le_of_ble_eq_true rfl) dX0_otherwise_35 ⟨hC1, Nat.mul_le_mul_left 64 hC1⟩ (fun r16 σ15 H locs hw hW hS => ?_)
      have hC := hC1
      refine lv_aload_n hx hb dX0_otherwise_38 rfl (lv_at hl 0 rfl) ?_
      refine xx_getr hx hb hts hown hW 25 4 (by decide) q775 dX0_otherwise_39 ?_
      refine lv_iload hx hb dX0_otherwise_42 (lv_at hl 2 rfl) ?_
      obtain ⟨hin, hw⟩ := hw
      refine xx_ald hx hb hW 4 24 (by decide) rfl hin dX0_otherwise_44 ?_
      refine lv_icmp_eq (tgt := 60) hx hb dX0_otherwise_45 (by decide) (fun c18 => ?_) (fun c18 => ?_)
      · have hw := hw.1 c18
        refine lv_iinc (v := (x4 + (1 : Int32))) (lv' := [(4, .int (x4 + (1 : Int32))), (0, .ref (ad 0)), (1, .ref x1)]) hx hb dX0_otherwise_60 hl (k := 2) rfl rfl (by decide) rfl (fun ls hl => ?_)
        refine lv_goto (tgt := 15) hx hb dX0_otherwise_63 (by decide) ?_
        exact ih x1 (x4 + (1 : Int32)) ((((C + N4) + N7) + N11) + N14) σ15 _ _ _ hw hC hW hS (lv_sub hl [1, 2, 0] rfl)
      · have hw := hw.2 c18
        refine lv_iload hx hb dX0_otherwise_48 (lv_at hl 2 rfl) ?_
        refine lv_istore (lv' := [(5, .int x4), (0, .ref (ad 0)), (1, .ref x1), (4, .int x4)]) hx hb dX0_otherwise_50 hl (by decide) rfl (fun ls hl => ?_)
        refine lv_aload_n hx hb dX0_otherwise_52 rfl (lv_at hl 1 rfl) ?_
        refine lv_iconst (v := (0 : Int32)) hx hb dX0_otherwise_53 (by decide) ?_
        refine xx_aVV (k := ((((C + N4) + N7) + N11) + N14)) (n1 := 0) ⟨hx, hb, hml, hown, hts⟩ hA (xxt_laysBack l _ _ hw) (cwV 1 hts (lw_V q973 q975 qs42 q103 q976) rfl rfl rfl cd_X0_laysBack ⟨Nat.le_of_ble_eq_true rfl, Nat.le_of_ble_eq_true rfl⟩) hW (xx_recv hW) hS rfl hl.1 rfl (Nat.le_of_ble_eq_true rfl) dX0_otherwise_54 ⟨hC, Nat.mul_le_mul_left 64 hC⟩ (fun σ17 H locs hw hW hS => ?_)
        refine lv_iload hx hb dX0_otherwise_57 (lv_at hl 0 rfl) ?_
        exact W.widen hC (Nat.mul_le_mul_left 64 hC) (gg_iret (xx_mv D E A ad sk) C0 hW hS hw dX0_otherwise_59)
set_option maxHeartbeats 4000000 in
set_option maxRecDepth 100000 in
theorem xxt_otherwise (l : Launch) {N : Nat} {D : va_G} {E : Nat → ClassId} {A : Nat → Prop} {ad sk : Nat → Nat}  (a1 : Nat) (a2 : Int32) (a3 : Int32) (σ : xx_S) {Q : Int32 → xx_S → Prop} (hw : xxw_otherwise N a1 a2 a3 σ Q) :
    Met l yX0_otherwise (wsW_ yX0_otherwise cX0_otherwise 7 (some .int) [(5, 52, 77, 0), (60, 69, 77, 0), (77, 79, 77, 0)]) (xxr_otherwise N) (va_Pc [.ref (ad 0), .ref a1, .int a2, .int a3] (fun U => xx_V D E A ad sk σ U U.heap)) (va_Qi Q (fun u t => xx_W D E A ad sk u t t.heap) A) N (64 * N) A := by
  refine gg_entryW (W0 := fun s H => xx_V D E A ad sk σ s H) (by decide) (Nat.le_of_ble_eq_true rfl) ?_
  intro p e s m args below meth c C0 hV ls hl
  have C0 : gg_C p s m args meth c RX0 cX0_otherwise 7 (some .int) := C0
  obtain ⟨hx, hb, hml, hown, hts, hr, hlocks⟩ := id C0
  have hl : lv_has ls 7 [(0, .ref (ad 0)), (1, .ref a1), (2, .int a2), (3, .int a3)] := hl
  have hS : va_S A s.heap s.heap [] := va_S.rf
  have hC : 0 ≤ N := Nat.zero_le _
  have hA : xx_A sk A s := hV.2
  have hW : xx_W D E A ad sk σ s s.heap := hV.1
  unfold xxw_otherwise at hw
  refine lv_aload_n hx hb dX0_otherwise_0 rfl (lv_at hl 0 rfl) ?_
  refine lv_iconst (v := (0 : Int32)) hx hb dX0_otherwise_1 (by decide) ?_
  refine xx_aVV (k := 0) (n1 := 0) ⟨hx, hb, hml, hown, hts⟩ hA (xxt_keeps l _ _ hw) (cwV 1 hts (lw_V q966 q968 qs41 q103 q969) rfl rfl rfl cd_X0_keeps ⟨Nat.le_of_ble_eq_true rfl, Nat.le_of_ble_eq_true rfl⟩) hW (xx_recv hW) hS rfl hl.1 rfl (Nat.le_of_ble_eq_true rfl) dX0_otherwise_2 ⟨hC, Nat.mul_le_mul_left 64 hC⟩ (fun σ1 H locs hw hW hS => ?_)
  refine lv_aload_n hx hb dX0_otherwise_5 rfl (lv_at hl 0 rfl) ?_
  refine lv_iload_n hx hb dX0_otherwise_6 rfl (lv_at hl 2 rfl) ?_
  refine lv_iload_n hx hb dX0_otherwise_7 rfl (lv_at hl 3 rfl) ?_
  refine xx_aV (k := 0) (n1 := 0) ⟨hx, hb, hml, hown, hts⟩ hA (xxt_gleans l _ _ _ hw) (cwV 2 hts (lw_V q926 q928 qs34 q103 q929) rfl rfl rfl cd_X0_gleans ⟨Nat.le_of_ble_eq_true rfl, Nat.le_of_ble_eq_true rfl⟩) hW (xx_recv hW) hS rfl hl.1 rfl (Nat.le_of_ble_eq_true rfl) dX0_otherwise_8 ⟨hC, Nat.mul_le_mul_left 64 hC⟩ (fun r3 σ2 H locs hw hW hS => ?_)
  refine lv_pop hx hb dX0_otherwise_11 rfl ?_
  refine lv_iconst (v := (0 : Int32)) hx hb dX0_otherwise_12 (by decide) ?_
  refine lv_istore (lv' := [(4, .int (0 : Int32)), (0, .ref (ad 0)), (1, .ref a1), (2, .int a2), (3, .int a3)]) hx hb dX0_otherwise_13 hl (by decide) rfl (fun ls hl => ?_)
  obtain ⟨n9, hw⟩ := hw
  exact xxk_otherwise_15  C0 hA  n9 a1 (0 : Int32) 0 σ2 _ _ _ hw hC hW hS (lv_sub hl [1, 2, 0] rfl)
theorem cd_X0_isSoAs : yX0_isSoAs.cls = RX0 ∧ yX0_isSoAs.cls ≠ "java/lang/invoke/MethodHandle" ∧ yX0_isSoAs.cls ≠ "java/lang/invoke/VarHandle" ∧ (parseMethodDescriptor yX0_isSoAs.desc).map (fun d => d.parameters.length) = some 4 := by decide +kernel
/-! GleanersForGaps.isSoAs(·Ljava/lang/Object;III)Z -/
def xxw_isSoAs_45 (N : Nat) (Q : Int32 → xx_S → Prop)  (x2 : Int32) (x5 : Nat) (s0 : Int32) (C : Nat) (σ : xx_S) : Prop :=
    vp_in x2 5 ∧ ∃ (k15 : Nat) (nk15 ak15 : Int32), xx_gl σ x5 k15 nk15 ak15 ∧ (∀ σ16 : xx_S, σ16 = xx_rs σ 43 x2.toNatClampNeg (some x5) → (s0 = 0 ∨ s0 = 1) ∧ Q s0 σ16)
def xxw_isSoAs (N : Nat) (a1 : Nat) (a2 : Int32) (a3 : Int32) (a4 : Int32) (σ : xx_S) (Q : Int32 → xx_S → Prop) : Prop :=
    vp_in a2 5 ∧ ∃ y1 : Nat, xx_r σ 43 a2.toNatClampNeg = some y1 ∧ ∃ (k2 : Nat) (nk2 ak2 : Int32), xx_gl σ y1 k2 nk2 ak2 ∧ (∃ N3 : Nat, 0 + N3 ≤ N ∧ xxw_made N3 a4 nk2 σ (fun r5 σ4 => ∃ y6 : Nat, r5 = some y6 ∧ (xxw_vlike y6 y1 σ4 (fun r8 σ7 => ∃ y9 : Nat, r8 = some y9 ∧ vp_in a2 5 ∧ ∃ (k10 : Nat) (nk10 ak10 : Int32), xx_gl σ7 y9 k10 nk10 ak10 ∧ (∀ σ11 : xx_S, σ11 = xx_rs σ7 43 a2.toNatClampNeg (some y9) → (∃ N12 : Nat, (0 + N3) + N12 ≤ N ∧ xxw_otherwise N12 a1 a2 a3 σ11 (fun r14 σ13 => (((r14 = (-1 : Int32)) → xxw_isSoAs_45 N Q a2 y1 (1 : Int32) ((0 + N3) + N12) σ13) ∧ (¬ (r14 = (-1 : Int32)) → xxw_isSoAs_45 N Q a2 y1 (0 : Int32) ((0 + N3) + N12) σ13)))))))))
abbrev xxr_isSoAs (N : Nat) : Room := { frames := 207, cells := N, slots := 64 * N, locals := 6128 }
set_option maxHeartbeats 4000000 in
set_option maxRecDepth 100000 in
theorem xxk_isSoAs_45 {p : Program} {l : Launch} {e : Env} {s : State} {m : MethodId} {args : Array Value} {below : List Frame} {meth : Method} {c : Code} {N : Nat} {D : va_G} {E : Nat → ClassId} {A : Nat → Prop} {ad sk : Nat → Nat} {Q : Int32 → xx_S → Prop}   (C0 : gg_C p s m args meth c RX0 cX0_isSoAs 8 (some .boolean)) (hA : xx_A sk A s) :
    ∀ (x2 : Int32) (x5 : Nat) (s0 : Int32) (C : Nat) (σ : xx_S) (H : Heap) (locs : List Loc) (ls : Array Slot), xxw_isSoAs_45 N Q x2 x5 s0 C σ → C ≤ N → xx_W D E A ad sk σ s H → va_S A s.heap H locs → lv_has ls 8 [(0, .ref (ad 0)), (2, .int x2), (5, .ref x5)] → W p l e (xxr_isSoAs N) s m args below meth c H locs C (64 * C) (MQ below (va_Qi (fun r u => (r = 0 ∨ r = 1) ∧ Q r u) (fun u t => xx_W D E A ad sk u t t.heap) A) args s N (64 * N) A) (F0 m 45 ls [.int s0]) := by
  obtain ⟨hx, hb, hml, hown, hts, hr, hlocks⟩ := id C0
  intro x2 x5 s0 C σ H locs ls hw hC hW hS hl
  unfold xxw_isSoAs_45 at hw
  refine lv_istore (lv' := [(6, .int s0), (0, .ref (ad 0)), (2, .int x2), (5, .ref x5)]) hx hb dX0_isSoAs_45 hl (by decide) rfl (fun ls hl => ?_)
  refine lv_aload_n hx hb dX0_isSoAs_47 rfl (lv_at hl 1 rfl) ?_
  refine xx_getr hx hb hts hown hW 0 43 (by decide) q744 dX0_isSoAs_48 ?_
  refine lv_iload_n hx hb dX0_isSoAs_51 rfl (lv_at hl 2 rfl) ?_
  refine lv_aload hx hb dX0_isSoAs_52 (lv_at hl 3 rfl) ?_
  obtain ⟨hin, k15, nk15, ak15, hgl, hw⟩ := hw
  refine xx_astF hx hb hA.1 hW hS hin hgl dX0_isSoAs_54 (fun H locs hW hS => ?_)
  obtain ⟨σ16, eσ16⟩ : ∃ z, z = xx_rs σ 43 x2.toNatClampNeg (some x5) := ⟨_, rfl⟩
  rw [← eσ16] at hW
  have hw := hw σ16 eσ16
  refine lv_iload hx hb dX0_isSoAs_55 (lv_at hl 0 rfl) ?_
  exact W.widen hC (Nat.mul_le_mul_left 64 hC) (gg_zret (xx_mv D E A ad sk) C0 hW hS hw.1 hw.2 dX0_isSoAs_57)
set_option maxHeartbeats 4000000 in
set_option maxRecDepth 100000 in
theorem xxt_isSoAs (l : Launch) {N : Nat} {D : va_G} {E : Nat → ClassId} {A : Nat → Prop} {ad sk : Nat → Nat}  (a1 : Nat) (a2 : Int32) (a3 : Int32) (a4 : Int32) (σ : xx_S) {Q : Int32 → xx_S → Prop} (hw : xxw_isSoAs N a1 a2 a3 a4 σ Q) :
    Met l yX0_isSoAs (wsW_ yX0_isSoAs cX0_isSoAs 8 (some .boolean) [(8, 47, 58, 0), (58, 60, 58, 0)]) (xxr_isSoAs N) (va_Pc [.ref (ad 0), .ref a1, .int a2, .int a3, .int a4] (fun U => xx_V D E A ad sk σ U U.heap)) (va_Qi (fun r u => (r = 0 ∨ r = 1) ∧ Q r u) (fun u t => xx_W D E A ad sk u t t.heap) A) N (64 * N) A := by
  refine gg_entryW (W0 := fun s H => xx_V D E A ad sk σ s H) (by decide) (Nat.le_of_ble_eq_true rfl) ?_
  intro p e s m args below meth c C0 hV ls hl
  have C0 : gg_C p s m args meth c RX0 cX0_isSoAs 8 (some .boolean) := C0
  obtain ⟨hx, hb, hml, hown, hts, hr, hlocks⟩ := id C0
  have hl : lv_has ls 8 [(0, .ref (ad 0)), (1, .ref a1), (2, .int a2), (3, .int a3), (4, .int a4)] := hl
  have hS : va_S A s.heap s.heap [] := va_S.rf
  have hC : 0 ≤ N := Nat.zero_le _
  have hA : xx_A sk A s := hV.2
  have hW : xx_W D E A ad sk σ s s.heap := hV.1
  unfold xxw_isSoAs at hw
  refine lv_aload_n hx hb dX0_isSoAs_0 rfl (lv_at hl 0 rfl) ?_
  refine xx_getr hx hb hts hown hW 0 43 (by decide) q744 dX0_isSoAs_1 ?_
  refine lv_iload_n hx hb dX0_isSoAs_4 rfl (lv_at hl 2 rfl) ?_
  obtain ⟨hin, y1, hy, hw⟩ := hw
  refine xx_aldF hx hb hW hin hy dX0_isSoAs_5 ?_
  refine lv_astore (lv' := [(5, .ref y1), (0, .ref (ad 0)), (1, .ref a1), (2, .int a2), (3, .int a3), (4, .int a4)]) hx hb dX0_isSoAs_6 hl (by decide) rfl (fun ls hl => ?_)
  refine lv_aload_n hx hb dX0_isSoAs_8 rfl (lv_at hl 1 rfl) ?_
  refine xx_getr hx hb hts hown hW 0 43 (by decide) q744 dX0_isSoAs_9 ?_
  refine lv_iload_n hx hb dX0_isSoAs_12 rfl (lv_at hl 3 rfl) ?_
  refine lv_iload hx hb dX0_isSoAs_13 (lv_at hl 5 rfl) ?_
  refine lv_aload hx hb dX0_isSoAs_15 (lv_at hl 0 rfl) ?_
  obtain ⟨k2, nk2, ak2, hgl, hw⟩ := hw
  refine xx_gln hx hb hts hown hW hgl q162 (fun _ h9 => h9) dX0_isSoAs_17 ?_
  obtain ⟨N3, hC1, hw⟩ := hw
  refine xx_aQ (k := 0) (n1 := N3) ⟨hx, hb, hml, hown, hts⟩ hA (xxt_made l _ _ _ hw) (va_cwS 2 hts (lw_S q143 q144 q103 q145) rfl rfl rfl cd_X0_made.2 ⟨Nat.le_of_ble_eq_true rfl, Nat.le_of_ble_eq_true rfl⟩) hW hS rfl hl.1 rfl (Nat.le_of_ble_eq_true rfl) dX0_isSoAs_20 ⟨hC1, Nat.mul_le_mul_left 64 hC1⟩ (fun r5 σ4 H locs hw hW hS => ?_)
  have hC := hC1
  obtain ⟨y6, ey6, hw⟩ := hw
  subst ey6
  refine lv_aload hx hb dX0_isSoAs_23 (lv_at hl 0 rfl) ?_
  refine xx_vc_like ⟨hx, hb, hml, hown, hts⟩ hA hw q1082 ⟨Nat.le_of_ble_eq_true rfl, Nat.le_of_ble_eq_true rfl⟩ ⟨hC, Nat.mul_le_mul_left 64 hC⟩ hW hS hl.1 (Nat.le_of_ble_eq_true rfl) dX0_isSoAs_25 (fun r8 σ7 H locs hw hW hS => ?_)
  obtain ⟨y9, ey9, hw⟩ := hw
  subst ey9
  obtain ⟨hin, k10, nk10, ak10, hgl, hw⟩ := hw
  refine xx_astF hx hb hA.1 hW hS hin hgl dX0_isSoAs_28 (fun H locs hW hS => ?_)
  obtain ⟨σ11, eσ11⟩ : ∃ z, z = xx_rs σ7 43 a2.toNatClampNeg (some y9) := ⟨_, rfl⟩
  rw [← eσ11] at hW
  have hw := hw σ11 eσ11
  refine lv_aload_n hx hb dX0_isSoAs_29 rfl (lv_at hl 1 rfl) ?_
  refine lv_aload_n hx hb dX0_isSoAs_30 rfl (lv_at hl 2 rfl) ?_
  refine lv_iload_n hx hb dX0_isSoAs_31 rfl (lv_at hl 3 rfl) ?_
  refine lv_iload_n hx hb dX0_isSoAs_32 rfl (lv_at hl 4 rfl) ?_
  obtain ⟨N12, hC1, hw⟩ := hw
  refine xx_aW (k := (0 + N3)) (n1 := N12) ⟨hx, hb, hml, hown, hts⟩ hA (xxt_otherwise l _ _ _ _ hw) (vx_cwVW (hh := [(5, 52, 77, 0), (60, 69, 77, 0), (77, 79, 77, 0)]) 3 hts (lw_VW q1043 q1045 qs48 q103 q1046) rfl rfl rfl cd_X0_otherwise ⟨Nat.le_of_ble_eq_true rfl, Nat.le_of_ble_eq_true rfl⟩) hW (xx_recv hW) hS rfl hl.1 rfl (Nat.le_of_ble_eq_true rfl) dX0_isSoAs_33 ⟨hC1, Nat.mul_le_mul_left 64 hC1⟩ (fun r14 σ13 H locs hw hW hS => ?_)
  have hC := hC1
  refine lv_iconst (v := (-1 : Int32)) hx hb dX0_isSoAs_36 (by decide) ?_
  refine lv_icmp_ne (tgt := 44) hx hb dX0_isSoAs_37 (by decide) (fun c17 => ?_) (fun c17 => ?_)
  · have hw := hw.2 c17
    refine lv_iconst (v := (0 : Int32)) hx hb dX0_isSoAs_44 (by decide) ?_
    exact xxk_isSoAs_45  C0 hA  a2 y1 (0 : Int32) ((0 + N3) + N12) σ13 _ _ _ hw hC hW hS (lv_sub hl [1, 3, 0] rfl)
  · have hw := hw.1 c17
    refine lv_iconst (v := (1 : Int32)) hx hb dX0_isSoAs_40 (by decide) ?_
    refine lv_goto (tgt := 45) hx hb dX0_isSoAs_41 (by decide) ?_
    exact xxk_isSoAs_45  C0 hA  a2 y1 (1 : Int32) ((0 + N3) + N12) σ13 _ _ _ hw hC hW hS (lv_sub hl [1, 3, 0] rfl)
theorem cd_X0_kindsOf : yX0_kindsOf.cls = RX0 ∧ yX0_kindsOf.cls ≠ "java/lang/invoke/MethodHandle" ∧ yX0_kindsOf.cls ≠ "java/lang/invoke/VarHandle" ∧ (parseMethodDescriptor yX0_kindsOf.desc).map (fun d => d.parameters.length) = some 3 := by decide +kernel
/-! GleanersForGaps.kindsOf(·Ljava/lang/Object;II)I -/
def xxw_kindsOf_35 (N : Nat) (Q : Int32 → xx_S → Prop) (K6 : Nat → Int32 → Int32 → Int32 → Int32 → Nat → xx_S → Prop) (x1 : Nat) (x2 : Int32) (x3 : Int32) (x5 : Int32) (s0 : Int32) (s1 : Int32) (C : Nat) (σ : xx_S) : Prop :=
    K6 x1 x2 x3 (s0 ||| s1) (x5 + (1 : Int32)) C σ
def xxw_kindsOf_6 (N : Nat) (Q : Int32 → xx_S → Prop)  : Nat → Nat → Int32 → Int32 → Int32 → Int32 → Nat → xx_S → Prop
  | 0, _, _, _, _, _, _, _ => False
  | n + 1, x1, x2, x3, x4, x5, C, σ =>
    ((((6 : Int32) ≤ x5) → Q x4 σ) ∧ (¬ ((6 : Int32) ≤ x5) → (∃ N1 : Nat, C + N1 ≤ N ∧ xxw_isSoAs N1 x1 x2 x3 x5 σ (fun r3 σ2 => (((r3 = 0) → xxw_kindsOf_35 N Q (fun y0 y1 y2 y3 y4 y5 τ => xxw_kindsOf_6 N Q n y0 y1 y2 y3 y4 y5 τ) x1 x2 x3 x5 x4 (0 : Int32) (C + N1) σ2) ∧ (¬ (r3 = 0) → xxw_kindsOf_35 N Q (fun y0 y1 y2 y3 y4 y5 τ => xxw_kindsOf_6 N Q n y0 y1 y2 y3 y4 y5 τ) x1 x2 x3 x5 x4 ((1 : Int32) <<< (x5 &&& 31)) (C + N1) σ2))))))
def xxw_kindsOf (N : Nat) (a1 : Nat) (a2 : Int32) (a3 : Int32) (σ : xx_S) (Q : Int32 → xx_S → Prop) : Prop :=
    ∃ k9, xxw_kindsOf_6 N Q k9 a1 a2 a3 (0 : Int32) (0 : Int32) 0 σ
abbrev xxr_kindsOf (N : Nat) : Room := { frames := 208, cells := N, slots := 64 * N, locals := 6155 }
set_option maxHeartbeats 4000000 in
set_option maxRecDepth 100000 in
theorem xxk_kindsOf_35 {p : Program} {l : Launch} {e : Env} {s : State} {m : MethodId} {args : Array Value} {below : List Frame} {meth : Method} {c : Code} {N : Nat} {D : va_G} {E : Nat → ClassId} {A : Nat → Prop} {ad sk : Nat → Nat} {Q : Int32 → xx_S → Prop} {K6 : Nat → Int32 → Int32 → Int32 → Int32 → Nat → xx_S → Prop}  (C0 : gg_C p s m args meth c RX0 cX0_kindsOf 6 (some .int)) (hA : xx_A sk A s) (hK6 : ∀ (x1 : Nat) (x2 : Int32) (x3 : Int32) (x4 : Int32) (x5 : Int32) (C : Nat) (σ : xx_S) (H : Heap) (locs : List Loc) (ls : Array Slot), K6 x1 x2 x3 x4 x5 C σ → C ≤ N → xx_W D E A ad sk σ s H → va_S A s.heap H locs → lv_has ls 6 [(0, .ref (ad 0)), (1, .ref x1), (2, .int x2), (3, .int x3), (4, .int x4), (5, .int x5)] → W p l e (xxr_kindsOf N) s m args below meth c H locs C (64 * C) (MQ below (va_Qi Q (fun u t => xx_W D E A ad sk u t t.heap) A) args s N (64 * N) A) (F0 m 6 ls [])) :
    ∀ (x1 : Nat) (x2 : Int32) (x3 : Int32) (x5 : Int32) (s0 : Int32) (s1 : Int32) (C : Nat) (σ : xx_S) (H : Heap) (locs : List Loc) (ls : Array Slot), xxw_kindsOf_35 N Q K6 x1 x2 x3 x5 s0 s1 C σ → C ≤ N → xx_W D E A ad sk σ s H → va_S A s.heap H locs → lv_has ls 6 [(0, .ref (ad 0)), (1, .ref x1), (2, .int x2), (3, .int x3), (5, .int x5)] → W p l e (xxr_kindsOf N) s m args below meth c H locs C (64 * C) (MQ below (va_Qi Q (fun u t => xx_W D E A ad sk u t t.heap) A) args s N (64 * N) A) (F0 m 35 ls [.int s1, .int s0]) := by
  obtain ⟨hx, hb, hml, hown, hts, hr, hlocks⟩ := id C0
  intro x1 x2 x3 x5 s0 s1 C σ H locs ls hw hC hW hS hl
  unfold xxw_kindsOf_35 at hw
  refine lv_ior hx hb dX0_kindsOf_35 ?_
  refine lv_istore (lv' := [(4, .int (s0 ||| s1)), (0, .ref (ad 0)), (1, .ref x1), (2, .int x2), (3, .int x3), (5, .int x5)]) hx hb dX0_kindsOf_36 hl (by decide) rfl (fun ls hl => ?_)
  refine lv_iinc (v := (x5 + (1 : Int32))) (lv' := [(5, .int (x5 + (1 : Int32))), (4, .int (s0 ||| s1)), (0, .ref (ad 0)), (1, .ref x1), (2, .int x2), (3, .int x3)]) hx hb dX0_kindsOf_38 hl (k := 5) rfl rfl (by decide) rfl (fun ls hl => ?_)
  refine lv_goto (tgt := 6) hx hb dX0_kindsOf_41 (by decide) ?_
  exact hK6 x1 x2 x3 (s0 ||| s1) (x5 + (1 : Int32)) C σ _ _ _ hw hC hW hS (lv_sub hl [2, 3, 4, 5, 1, 0] rfl)
set_option maxHeartbeats 4000000 in
set_option maxRecDepth 100000 in
theorem xxk_kindsOf_6 {p : Program} {l : Launch} {e : Env} {s : State} {m : MethodId} {args : Array Value} {below : List Frame} {meth : Method} {c : Code} {N : Nat} {D : va_G} {E : Nat → ClassId} {A : Nat → Prop} {ad sk : Nat → Nat} {Q : Int32 → xx_S → Prop}   (C0 : gg_C p s m args meth c RX0 cX0_kindsOf 6 (some .int)) (hA : xx_A sk A s) :
    ∀ n : Nat, ∀ (x1 : Nat) (x2 : Int32) (x3 : Int32) (x4 : Int32) (x5 : Int32) (C : Nat) (σ : xx_S) (H : Heap) (locs : List Loc) (ls : Array Slot), xxw_kindsOf_6 N Q n x1 x2 x3 x4 x5 C σ → C ≤ N → xx_W D E A ad sk σ s H → va_S A s.heap H locs → lv_has ls 6 [(0, .ref (ad 0)), (1, .ref x1), (2, .int x2), (3, .int x3), (4, .int x4), (5, .int x5)] → W p l e (xxr_kindsOf N) s m args below meth c H locs C (64 * C) (MQ below (va_Qi Q (fun u t => xx_W D E A ad sk u t t.heap) A) args s N (64 * N) A) (F0 m 6 ls []) := by
  obtain ⟨hx, hb, hml, hown, hts, hr, hlocks⟩ := id C0
  intro n
  induction n with
  | zero =>
    intro x1 x2 x3 x4 x5 C σ H locs ls hw hC hW hS hl
    exact absurd hw (by unfold xxw_kindsOf_6; exact id)
  | succ n ih =>
    intro x1 x2 x3 x4 x5 C σ H locs ls hw hC hW hS hl
    unfold xxw_kindsOf_6 at hw
    refine lv_iload hx hb dX0_kindsOf_6 (lv_at hl 5 rfl) ?_
    refine lv_bipush (v := (6 : Int32)) hx hb dX0_kindsOf_8 (by decide) ?_
    refine lv_icmp_ge (tgt := 44) hx hb dX0_kindsOf_10 (by decide) (fun c5 => ?_) (fun c5 => ?_)
    · have hw := hw.1 c5
      refine lv_iload hx hb dX0_kindsOf_44 (lv_at hl 4 rfl) ?_
      exact W.widen hC (Nat.mul_le_mul_left 64 hC) (gg_iret (xx_mv D E A ad sk) C0 hW hS hw dX0_kindsOf_46)
    · have hw := hw.2 c5
      refine lv_iload hx hb dX0_kindsOf_13 (lv_at hl 4 rfl) ?_
      refine lv_aload_n hx hb dX0_kindsOf_15 rfl (lv_at hl 0 rfl) ?_
      refine lv_aload_n hx hb dX0_kindsOf_16 rfl (lv_at hl 1 rfl) ?_
      refine lv_iload_n hx hb dX0_kindsOf_17 rfl (lv_at hl 2 rfl) ?_
      refine lv_iload_n hx hb dX0_kindsOf_18 rfl (lv_at hl 3 rfl) ?_
      refine lv_iload hx hb dX0_kindsOf_19 (lv_at hl 5 rfl) ?_
      obtain ⟨N1, hC1, hw⟩ := hw
      refine xx_aW (k := C) (n1 := N1) ⟨hx, hb, hml, hown, hts⟩ hA (xxt_isSoAs l _ _ _ _ _ hw) (vx_cwVW (hh := [(8, 47, 58, 0), (58, 60, 58, 0)]) 4 hts (lw_VW q1078 q1080 qs50 q103 q1081) rfl rfl rfl cd_X0_isSoAs ⟨Nat.le_of_ble_eq_true rfl, Nat.le_of_ble_eq_true rfl⟩) hW (xx_recv hW) hS rfl hl.1 rfl (Nat.le_of_ble_eq_true rfl) dX0_kindsOf_21 ⟨hC1, Nat.mul_le_mul_left 64 hC1⟩ (fun r3 σ2 H locs hw hW hS => ?_)
      have hC := hC1
      obtain ⟨hz_r3, hw⟩ := hw
      refine lv_if_eq (tgt := 34) hx hb dX0_kindsOf_24 (by decide) (fun c4 => ?_) (fun c4 => ?_)
      · have hw := hw.1 c4
        refine lv_iconst (v := (0 : Int32)) hx hb dX0_kindsOf_34 (by decide) ?_
        exact xxk_kindsOf_35  C0 hA (fun y0 y1 y2 y3 y4 y5 τ H9 l9 s9 => ih y0 y1 y2 y3 y4 y5 τ H9 l9 s9) x1 x2 x3 x5 x4 (0 : Int32) (C + N1) σ2 _ _ _ hw hC hW hS (lv_sub hl [0, 1, 2, 3, 5] rfl)
      · have hw := hw.2 c4
        refine lv_iconst (v := (1 : Int32)) hx hb dX0_kindsOf_27 (by decide) ?_
        refine lv_iload hx hb dX0_kindsOf_28 (lv_at hl 5 rfl) ?_
        refine lv_ishl hx hb dX0_kindsOf_30 ?_
        refine lv_goto (tgt := 35) hx hb dX0_kindsOf_31 (by decide) ?_
        exact xxk_kindsOf_35  C0 hA (fun y0 y1 y2 y3 y4 y5 τ H9 l9 s9 => ih y0 y1 y2 y3 y4 y5 τ H9 l9 s9) x1 x2 x3 x5 x4 ((1 : Int32) <<< (x5 &&& 31)) (C + N1) σ2 _ _ _ hw hC hW hS (lv_sub hl [0, 1, 2, 3, 5] rfl)
set_option maxHeartbeats 4000000 in
set_option maxRecDepth 100000 in
theorem xxt_kindsOf (l : Launch) {N : Nat} {D : va_G} {E : Nat → ClassId} {A : Nat → Prop} {ad sk : Nat → Nat}  (a1 : Nat) (a2 : Int32) (a3 : Int32) (σ : xx_S) {Q : Int32 → xx_S → Prop} (hw : xxw_kindsOf N a1 a2 a3 σ Q) :
    Met l yX0_kindsOf (ws_ yX0_kindsOf cX0_kindsOf 6 (some .int)) (xxr_kindsOf N) (va_Pc [.ref (ad 0), .ref a1, .int a2, .int a3] (fun U => xx_V D E A ad sk σ U U.heap)) (va_Qi Q (fun u t => xx_W D E A ad sk u t t.heap) A) N (64 * N) A := by
  refine gg_entry (W0 := fun s H => xx_V D E A ad sk σ s H) (by decide) (Nat.le_of_ble_eq_true rfl) ?_
  intro p e s m args below meth c C0 hV ls hl
  have C0 : gg_C p s m args meth c RX0 cX0_kindsOf 6 (some .int) := C0
  obtain ⟨hx, hb, hml, hown, hts, hr, hlocks⟩ := id C0
  have hl : lv_has ls 6 [(0, .ref (ad 0)), (1, .ref a1), (2, .int a2), (3, .int a3)] := hl
  have hS : va_S A s.heap s.heap [] := va_S.rf
  have hC : 0 ≤ N := Nat.zero_le _
  have hA : xx_A sk A s := hV.2
  have hW : xx_W D E A ad sk σ s s.heap := hV.1
  unfold xxw_kindsOf at hw
  refine lv_iconst (v := (0 : Int32)) hx hb dX0_kindsOf_0 (by decide) ?_
  refine lv_istore (lv' := [(4, .int (0 : Int32)), (0, .ref (ad 0)), (1, .ref a1), (2, .int a2), (3, .int a3)]) hx hb dX0_kindsOf_1 hl (by decide) rfl (fun ls hl => ?_)
  refine lv_iconst (v := (0 : Int32)) hx hb dX0_kindsOf_3 (by decide) ?_
  refine lv_istore (lv' := [(5, .int (0 : Int32)), (4, .int (0 : Int32)), (0, .ref (ad 0)), (1, .ref a1), (2, .int a2), (3, .int a3)]) hx hb dX0_kindsOf_4 hl (by decide) rfl (fun ls hl => ?_)
  obtain ⟨n9, hw⟩ := hw
  exact xxk_kindsOf_6  C0 hA  n9 a1 a2 a3 (0 : Int32) (0 : Int32) 0 σ _ _ _ hw hC hW hS (lv_sub hl [2, 3, 4, 5, 1, 0] rfl)
theorem cd_X0_isSoBy : yX0_isSoBy.cls = RX0 ∧ yX0_isSoBy.cls ≠ "java/lang/invoke/MethodHandle" ∧ yX0_isSoBy.cls ≠ "java/lang/invoke/VarHandle" ∧ (parseMethodDescriptor yX0_isSoBy.desc).map (fun d => d.parameters.length) = some 5 := by decide +kernel
/-! GleanersForGaps.isSoBy(·Ljava/lang/Object;IIII)Z -/
def xxw_isSoBy_34 (N : Nat) (Q : Int32 → xx_S → Prop)  (x2 : Int32) (x4 : Int32) (x6 : Int32) (s0 : Int32) (C : Nat) (σ : xx_S) : Prop :=
    (xxw_becomes x4 x2 x6 σ (fun σ7 => (s0 = 0 ∨ s0 = 1) ∧ Q s0 σ7))
def xxw_isSoBy (N : Nat) (a1 : Nat) (a2 : Int32) (a3 : Int32) (a4 : Int32) (a5 : Int32) (σ : xx_S) (Q : Int32 → xx_S → Prop) : Prop :=
    (xxw_told a2 a4 σ (fun r2 σ1 => (xxw_becomes a4 a2 a5 σ1 (fun σ3 => (∃ N4 : Nat, 0 + N4 ≤ N ∧ xxw_otherwise N4 a1 a2 a3 σ3 (fun r6 σ5 => (((r6 = (-1 : Int32)) → xxw_isSoBy_34 N Q a2 a4 r2 (1 : Int32) (0 + N4) σ5) ∧ (¬ (r6 = (-1 : Int32)) → xxw_isSoBy_34 N Q a2 a4 r2 (0 : Int32) (0 + N4) σ5))))))))
abbrev xxr_isSoBy (N : Nat) : Room := { frames := 207, cells := N, slots := 64 * N, locals := 6128 }
set_option maxHeartbeats 4000000 in
set_option maxRecDepth 100000 in
theorem xxk_isSoBy_34 {p : Program} {l : Launch} {e : Env} {s : State} {m : MethodId} {args : Array Value} {below : List Frame} {meth : Method} {c : Code} {N : Nat} {D : va_G} {E : Nat → ClassId} {A : Nat → Prop} {ad sk : Nat → Nat} {Q : Int32 → xx_S → Prop}   (C0 : gg_C p s m args meth c RX0 cX0_isSoBy 9 (some .boolean)) (hA : xx_A sk A s) :
    ∀ (x2 : Int32) (x4 : Int32) (x6 : Int32) (s0 : Int32) (C : Nat) (σ : xx_S) (H : Heap) (locs : List Loc) (ls : Array Slot), xxw_isSoBy_34 N Q x2 x4 x6 s0 C σ → C ≤ N → xx_W D E A ad sk σ s H → va_S A s.heap H locs → lv_has ls 9 [(0, .ref (ad 0)), (2, .int x2), (4, .int x4), (6, .int x6)] → W p l e (xxr_isSoBy N) s m args below meth c H locs C (64 * C) (MQ below (va_Qi (fun r u => (r = 0 ∨ r = 1) ∧ Q r u) (fun u t => xx_W D E A ad sk u t t.heap) A) args s N (64 * N) A) (F0 m 34 ls [.int s0]) := by
  obtain ⟨hx, hb, hml, hown, hts, hr, hlocks⟩ := id C0
  intro x2 x4 x6 s0 C σ H locs ls hw hC hW hS hl
  unfold xxw_isSoBy_34 at hw
  refine lv_istore (lv' := [(7, .int s0), (0, .ref (ad 0)), (2, .int x2), (4, .int x4), (6, .int x6)]) hx hb dX0_isSoBy_34 hl (by decide) rfl (fun ls hl => ?_)
  refine lv_aload_n hx hb dX0_isSoBy_36 rfl (lv_at hl 1 rfl) ?_
  refine lv_iload hx hb dX0_isSoBy_37 (lv_at hl 3 rfl) ?_
  refine lv_iload_n hx hb dX0_isSoBy_39 rfl (lv_at hl 2 rfl) ?_
  refine lv_iload hx hb dX0_isSoBy_40 (lv_at hl 4 rfl) ?_
  refine xx_aVV (k := C) (n1 := 0) ⟨hx, hb, hml, hown, hts⟩ hA (xxt_becomes l _ _ _ _ hw) (cwV 3 hts (lw_V q367 q369 qs12 q103 q370) rfl rfl rfl cd_X0_becomes ⟨Nat.le_of_ble_eq_true rfl, Nat.le_of_ble_eq_true rfl⟩) hW (xx_recv hW) hS rfl hl.1 rfl (Nat.le_of_ble_eq_true rfl) dX0_isSoBy_42 ⟨hC, Nat.mul_le_mul_left 64 hC⟩ (fun σ7 H locs hw hW hS => ?_)
  refine lv_iload hx hb dX0_isSoBy_45 (lv_at hl 0 rfl) ?_
  exact W.widen hC (Nat.mul_le_mul_left 64 hC) (gg_zret (xx_mv D E A ad sk) C0 hW hS hw.1 hw.2 dX0_isSoBy_47)
set_option maxHeartbeats 4000000 in
set_option maxRecDepth 100000 in
theorem xxt_isSoBy (l : Launch) {N : Nat} {D : va_G} {E : Nat → ClassId} {A : Nat → Prop} {ad sk : Nat → Nat}  (a1 : Nat) (a2 : Int32) (a3 : Int32) (a4 : Int32) (a5 : Int32) (σ : xx_S) {Q : Int32 → xx_S → Prop} (hw : xxw_isSoBy N a1 a2 a3 a4 a5 σ Q) :
    Met l yX0_isSoBy (wsW_ yX0_isSoBy cX0_isSoBy 9 (some .boolean) [(9, 36, 48, 0), (48, 50, 48, 0)]) (xxr_isSoBy N) (va_Pc [.ref (ad 0), .ref a1, .int a2, .int a3, .int a4, .int a5] (fun U => xx_V D E A ad sk σ U U.heap)) (va_Qi (fun r u => (r = 0 ∨ r = 1) ∧ Q r u) (fun u t => xx_W D E A ad sk u t t.heap) A) N (64 * N) A := by
  refine gg_entryW (W0 := fun s H => xx_V D E A ad sk σ s H) (by decide) (Nat.le_of_ble_eq_true rfl) ?_
  intro p e s m args below meth c C0 hV ls hl
  have C0 : gg_C p s m args meth c RX0 cX0_isSoBy 9 (some .boolean) := C0
  obtain ⟨hx, hb, hml, hown, hts, hr, hlocks⟩ := id C0
  have hl : lv_has ls 9 [(0, .ref (ad 0)), (1, .ref a1), (2, .int a2), (3, .int a3), (4, .int a4), (5, .int a5)] := hl
  have hS : va_S A s.heap s.heap [] := va_S.rf
  have hC : 0 ≤ N := Nat.zero_le _
  have hA : xx_A sk A s := hV.2
  have hW : xx_W D E A ad sk σ s s.heap := hV.1
  unfold xxw_isSoBy at hw
  refine lv_aload_n hx hb dX0_isSoBy_0 rfl (lv_at hl 0 rfl) ?_
  refine lv_iload_n hx hb dX0_isSoBy_1 rfl (lv_at hl 2 rfl) ?_
  refine lv_iload hx hb dX0_isSoBy_2 (lv_at hl 4 rfl) ?_
  refine xx_aV (k := 0) (n1 := 0) ⟨hx, hb, hml, hown, hts⟩ hA (xxt_told l _ _ _ hw) (cwV 2 hts (lw_V q249 q250 q251 q103 q252) rfl rfl rfl cd_X0_told ⟨Nat.le_of_ble_eq_true rfl, Nat.le_of_ble_eq_true rfl⟩) hW (xx_recv hW) hS rfl hl.1 rfl (Nat.le_of_ble_eq_true rfl) dX0_isSoBy_4 ⟨hC, Nat.mul_le_mul_left 64 hC⟩ (fun r2 σ1 H locs hw hW hS => ?_)
  refine lv_istore (lv' := [(6, .int r2), (0, .ref (ad 0)), (1, .ref a1), (2, .int a2), (3, .int a3), (4, .int a4), (5, .int a5)]) hx hb dX0_isSoBy_7 hl (by decide) rfl (fun ls hl => ?_)
  refine lv_aload_n hx hb dX0_isSoBy_9 rfl (lv_at hl 1 rfl) ?_
  refine lv_iload hx hb dX0_isSoBy_10 (lv_at hl 5 rfl) ?_
  refine lv_iload_n hx hb dX0_isSoBy_12 rfl (lv_at hl 3 rfl) ?_
  refine lv_iload hx hb dX0_isSoBy_13 (lv_at hl 6 rfl) ?_
  refine xx_aVV (k := 0) (n1 := 0) ⟨hx, hb, hml, hown, hts⟩ hA (xxt_becomes l _ _ _ _ hw) (cwV 3 hts (lw_V q367 q369 qs12 q103 q370) rfl rfl rfl cd_X0_becomes ⟨Nat.le_of_ble_eq_true rfl, Nat.le_of_ble_eq_true rfl⟩) hW (xx_recv hW) hS rfl hl.1 rfl (Nat.le_of_ble_eq_true rfl) dX0_isSoBy_15 ⟨hC, Nat.mul_le_mul_left 64 hC⟩ (fun σ3 H locs hw hW hS => ?_)
  refine lv_aload_n hx hb dX0_isSoBy_18 rfl (lv_at hl 1 rfl) ?_
  refine lv_aload_n hx hb dX0_isSoBy_19 rfl (lv_at hl 2 rfl) ?_
  refine lv_iload_n hx hb dX0_isSoBy_20 rfl (lv_at hl 3 rfl) ?_
  refine lv_iload_n hx hb dX0_isSoBy_21 rfl (lv_at hl 4 rfl) ?_
  obtain ⟨N4, hC1, hw⟩ := hw
  refine xx_aW (k := 0) (n1 := N4) ⟨hx, hb, hml, hown, hts⟩ hA (xxt_otherwise l _ _ _ _ hw) (vx_cwVW (hh := [(5, 52, 77, 0), (60, 69, 77, 0), (77, 79, 77, 0)]) 3 hts (lw_VW q1043 q1045 qs48 q103 q1046) rfl rfl rfl cd_X0_otherwise ⟨Nat.le_of_ble_eq_true rfl, Nat.le_of_ble_eq_true rfl⟩) hW (xx_recv hW) hS rfl hl.1 rfl (Nat.le_of_ble_eq_true rfl) dX0_isSoBy_22 ⟨hC1, Nat.mul_le_mul_left 64 hC1⟩ (fun r6 σ5 H locs hw hW hS => ?_)
  have hC := hC1
  refine lv_iconst (v := (-1 : Int32)) hx hb dX0_isSoBy_25 (by decide) ?_
  refine lv_icmp_ne (tgt := 33) hx hb dX0_isSoBy_26 (by decide) (fun c8 => ?_) (fun c8 => ?_)
  · have hw := hw.2 c8
    refine lv_iconst (v := (0 : Int32)) hx hb dX0_isSoBy_33 (by decide) ?_
    exact xxk_isSoBy_34  C0 hA  a2 a4 r2 (0 : Int32) (0 + N4) σ5 _ _ _ hw hC hW hS (lv_sub hl [1, 3, 5, 0] rfl)
  · have hw := hw.1 c8
    refine lv_iconst (v := (1 : Int32)) hx hb dX0_isSoBy_29 (by decide) ?_
    refine lv_goto (tgt := 34) hx hb dX0_isSoBy_30 (by decide) ?_
    exact xxk_isSoBy_34  C0 hA  a2 a4 r2 (1 : Int32) (0 + N4) σ5 _ _ _ hw hC hW hS (lv_sub hl [1, 3, 5, 0] rfl)
theorem cd_X0_numbersOf : yX0_numbersOf.cls = RX0 ∧ yX0_numbersOf.cls ≠ "java/lang/invoke/MethodHandle" ∧ yX0_numbersOf.cls ≠ "java/lang/invoke/VarHandle" ∧ (parseMethodDescriptor yX0_numbersOf.desc).map (fun d => d.parameters.length) = some 3 := by decide +kernel
/-! GleanersForGaps.numbersOf(·Ljava/lang/Object;II)I -/
def xxw_numbersOf_36 (N : Nat) (Q : Int32 → xx_S → Prop) (K6 : Nat → Int32 → Int32 → Int32 → Int32 → Nat → xx_S → Prop) (x1 : Nat) (x2 : Int32) (x3 : Int32) (x5 : Int32) (s0 : Int32) (s1 : Int32) (C : Nat) (σ : xx_S) : Prop :=
    K6 x1 x2 x3 (s0 ||| s1) (x5 + (1 : Int32)) C σ
def xxw_numbersOf_6 (N : Nat) (Q : Int32 → xx_S → Prop)  : Nat → Nat → Int32 → Int32 → Int32 → Int32 → Nat → xx_S → Prop
  | 0, _, _, _, _, _, _, _ => False
  | n + 1, x1, x2, x3, x4, x5, C, σ =>
    ((((9 : Int32) < x5) → Q x4 σ) ∧ (¬ ((9 : Int32) < x5) → (∃ N1 : Nat, C + N1 ≤ N ∧ xxw_isSoBy N1 x1 x2 x3 (1 : Int32) x5 σ (fun r3 σ2 => (((r3 = 0) → xxw_numbersOf_36 N Q (fun y0 y1 y2 y3 y4 y5 τ => xxw_numbersOf_6 N Q n y0 y1 y2 y3 y4 y5 τ) x1 x2 x3 x5 x4 (0 : Int32) (C + N1) σ2) ∧ (¬ (r3 = 0) → xxw_numbersOf_36 N Q (fun y0 y1 y2 y3 y4 y5 τ => xxw_numbersOf_6 N Q n y0 y1 y2 y3 y4 y5 τ) x1 x2 x3 x5 x4 ((1 : Int32) <<< (x5 &&& 31)) (C + N1) σ2))))))
def xxw_numbersOf (N : Nat) (a1 : Nat) (a2 : Int32) (a3 : Int32) (σ : xx_S) (Q : Int32 → xx_S → Prop) : Prop :=
    ∃ k9, xxw_numbersOf_6 N Q k9 a1 a2 a3 (0 : Int32) (0 : Int32) 0 σ
abbrev xxr_numbersOf (N : Nat) : Room := { frames := 208, cells := N, slots := 64 * N, locals := 6156 }
set_option maxHeartbeats 4000000 in
set_option maxRecDepth 100000 in
theorem xxk_numbersOf_36 {p : Program} {l : Launch} {e : Env} {s : State} {m : MethodId} {args : Array Value} {below : List Frame} {meth : Method} {c : Code} {N : Nat} {D : va_G} {E : Nat → ClassId} {A : Nat → Prop} {ad sk : Nat → Nat} {Q : Int32 → xx_S → Prop} {K6 : Nat → Int32 → Int32 → Int32 → Int32 → Nat → xx_S → Prop}  (C0 : gg_C p s m args meth c RX0 cX0_numbersOf 6 (some .int)) (hA : xx_A sk A s) (hK6 : ∀ (x1 : Nat) (x2 : Int32) (x3 : Int32) (x4 : Int32) (x5 : Int32) (C : Nat) (σ : xx_S) (H : Heap) (locs : List Loc) (ls : Array Slot), K6 x1 x2 x3 x4 x5 C σ → C ≤ N → xx_W D E A ad sk σ s H → va_S A s.heap H locs → lv_has ls 6 [(0, .ref (ad 0)), (1, .ref x1), (2, .int x2), (3, .int x3), (4, .int x4), (5, .int x5)] → W p l e (xxr_numbersOf N) s m args below meth c H locs C (64 * C) (MQ below (va_Qi Q (fun u t => xx_W D E A ad sk u t t.heap) A) args s N (64 * N) A) (F0 m 6 ls [])) :
    ∀ (x1 : Nat) (x2 : Int32) (x3 : Int32) (x5 : Int32) (s0 : Int32) (s1 : Int32) (C : Nat) (σ : xx_S) (H : Heap) (locs : List Loc) (ls : Array Slot), xxw_numbersOf_36 N Q K6 x1 x2 x3 x5 s0 s1 C σ → C ≤ N → xx_W D E A ad sk σ s H → va_S A s.heap H locs → lv_has ls 6 [(0, .ref (ad 0)), (1, .ref x1), (2, .int x2), (3, .int x3), (5, .int x5)] → W p l e (xxr_numbersOf N) s m args below meth c H locs C (64 * C) (MQ below (va_Qi Q (fun u t => xx_W D E A ad sk u t t.heap) A) args s N (64 * N) A) (F0 m 36 ls [.int s1, .int s0]) := by
  obtain ⟨hx, hb, hml, hown, hts, hr, hlocks⟩ := id C0
  intro x1 x2 x3 x5 s0 s1 C σ H locs ls hw hC hW hS hl
  unfold xxw_numbersOf_36 at hw
  refine lv_ior hx hb dX0_numbersOf_36 ?_
  refine lv_istore (lv' := [(4, .int (s0 ||| s1)), (0, .ref (ad 0)), (1, .ref x1), (2, .int x2), (3, .int x3), (5, .int x5)]) hx hb dX0_numbersOf_37 hl (by decide) rfl (fun ls hl => ?_)
  refine lv_iinc (v := (x5 + (1 : Int32))) (lv' := [(5, .int (x5 + (1 : Int32))), (4, .int (s0 ||| s1)), (0, .ref (ad 0)), (1, .ref x1), (2, .int x2), (3, .int x3)]) hx hb dX0_numbersOf_39 hl (k := 5) rfl rfl (by decide) rfl (fun ls hl => ?_)
  refine lv_goto (tgt := 6) hx hb dX0_numbersOf_42 (by decide) ?_
  exact hK6 x1 x2 x3 (s0 ||| s1) (x5 + (1 : Int32)) C σ _ _ _ hw hC hW hS (lv_sub hl [2, 3, 4, 5, 1, 0] rfl)
set_option maxHeartbeats 4000000 in
set_option maxRecDepth 100000 in
theorem xxk_numbersOf_6 {p : Program} {l : Launch} {e : Env} {s : State} {m : MethodId} {args : Array Value} {below : List Frame} {meth : Method} {c : Code} {N : Nat} {D : va_G} {E : Nat → ClassId} {A : Nat → Prop} {ad sk : Nat → Nat} {Q : Int32 → xx_S → Prop}   (C0 : gg_C p s m args meth c RX0 cX0_numbersOf 6 (some .int)) (hA : xx_A sk A s) :
    ∀ n : Nat, ∀ (x1 : Nat) (x2 : Int32) (x3 : Int32) (x4 : Int32) (x5 : Int32) (C : Nat) (σ : xx_S) (H : Heap) (locs : List Loc) (ls : Array Slot), xxw_numbersOf_6 N Q n x1 x2 x3 x4 x5 C σ → C ≤ N → xx_W D E A ad sk σ s H → va_S A s.heap H locs → lv_has ls 6 [(0, .ref (ad 0)), (1, .ref x1), (2, .int x2), (3, .int x3), (4, .int x4), (5, .int x5)] → W p l e (xxr_numbersOf N) s m args below meth c H locs C (64 * C) (MQ below (va_Qi Q (fun u t => xx_W D E A ad sk u t t.heap) A) args s N (64 * N) A) (F0 m 6 ls []) := by
  obtain ⟨hx, hb, hml, hown, hts, hr, hlocks⟩ := id C0
  intro n
  induction n with
  | zero =>
    intro x1 x2 x3 x4 x5 C σ H locs ls hw hC hW hS hl
    exact absurd hw (by unfold xxw_numbersOf_6; exact id)
  | succ n ih =>
    intro x1 x2 x3 x4 x5 C σ H locs ls hw hC hW hS hl
    unfold xxw_numbersOf_6 at hw
    refine lv_iload hx hb dX0_numbersOf_6 (lv_at hl 5 rfl) ?_
    refine lv_bipush (v := (9 : Int32)) hx hb dX0_numbersOf_8 (by decide) ?_
    refine lv_icmp_gt (tgt := 45) hx hb dX0_numbersOf_10 (by decide) (fun c5 => ?_) (fun c5 => ?_)
    · have hw := hw.1 c5
      refine lv_iload hx hb dX0_numbersOf_45 (lv_at hl 4 rfl) ?_
      exact W.widen hC (Nat.mul_le_mul_left 64 hC) (gg_iret (xx_mv D E A ad sk) C0 hW hS hw dX0_numbersOf_47)
    · have hw := hw.2 c5
      refine lv_iload hx hb dX0_numbersOf_13 (lv_at hl 4 rfl) ?_
      refine lv_aload_n hx hb dX0_numbersOf_15 rfl (lv_at hl 0 rfl) ?_
      refine lv_aload_n hx hb dX0_numbersOf_16 rfl (lv_at hl 1 rfl) ?_
      refine lv_iload_n hx hb dX0_numbersOf_17 rfl (lv_at hl 2 rfl) ?_
      refine lv_iload_n hx hb dX0_numbersOf_18 rfl (lv_at hl 3 rfl) ?_
      refine lv_iconst (v := (1 : Int32)) hx hb dX0_numbersOf_19 (by decide) ?_
      refine lv_iload hx hb dX0_numbersOf_20 (lv_at hl 5 rfl) ?_
      obtain ⟨N1, hC1, hw⟩ := hw
      refine xx_aW (k := C) (n1 := N1) ⟨hx, hb, hml, hown, hts⟩ hA (xxt_isSoBy l _ _ _ _ _ _ hw) (vx_cwVW (hh := [(9, 36, 48, 0), (48, 50, 48, 0)]) 5 hts (lw_VW q1096 q1098 qs52 q103 q1099) rfl rfl rfl cd_X0_isSoBy ⟨Nat.le_of_ble_eq_true rfl, Nat.le_of_ble_eq_true rfl⟩) hW (xx_recv hW) hS rfl hl.1 rfl (Nat.le_of_ble_eq_true rfl) dX0_numbersOf_22 ⟨hC1, Nat.mul_le_mul_left 64 hC1⟩ (fun r3 σ2 H locs hw hW hS => ?_)
      have hC := hC1
      obtain ⟨hz_r3, hw⟩ := hw
      refine lv_if_eq (tgt := 35) hx hb dX0_numbersOf_25 (by decide) (fun c4 => ?_) (fun c4 => ?_)
      · have hw := hw.1 c4
        refine lv_iconst (v := (0 : Int32)) hx hb dX0_numbersOf_35 (by decide) ?_
        exact xxk_numbersOf_36  C0 hA (fun y0 y1 y2 y3 y4 y5 τ H9 l9 s9 => ih y0 y1 y2 y3 y4 y5 τ H9 l9 s9) x1 x2 x3 x5 x4 (0 : Int32) (C + N1) σ2 _ _ _ hw hC hW hS (lv_sub hl [0, 1, 2, 3, 5] rfl)
      · have hw := hw.2 c4
        refine lv_iconst (v := (1 : Int32)) hx hb dX0_numbersOf_28 (by decide) ?_
        refine lv_iload hx hb dX0_numbersOf_29 (lv_at hl 5 rfl) ?_
        refine lv_ishl hx hb dX0_numbersOf_31 ?_
        refine lv_goto (tgt := 36) hx hb dX0_numbersOf_32 (by decide) ?_
        exact xxk_numbersOf_36  C0 hA (fun y0 y1 y2 y3 y4 y5 τ H9 l9 s9 => ih y0 y1 y2 y3 y4 y5 τ H9 l9 s9) x1 x2 x3 x5 x4 ((1 : Int32) <<< (x5 &&& 31)) (C + N1) σ2 _ _ _ hw hC hW hS (lv_sub hl [0, 1, 2, 3, 5] rfl)
set_option maxHeartbeats 4000000 in
set_option maxRecDepth 100000 in
theorem xxt_numbersOf (l : Launch) {N : Nat} {D : va_G} {E : Nat → ClassId} {A : Nat → Prop} {ad sk : Nat → Nat}  (a1 : Nat) (a2 : Int32) (a3 : Int32) (σ : xx_S) {Q : Int32 → xx_S → Prop} (hw : xxw_numbersOf N a1 a2 a3 σ Q) :
    Met l yX0_numbersOf (ws_ yX0_numbersOf cX0_numbersOf 6 (some .int)) (xxr_numbersOf N) (va_Pc [.ref (ad 0), .ref a1, .int a2, .int a3] (fun U => xx_V D E A ad sk σ U U.heap)) (va_Qi Q (fun u t => xx_W D E A ad sk u t t.heap) A) N (64 * N) A := by
  refine gg_entry (W0 := fun s H => xx_V D E A ad sk σ s H) (by decide) (Nat.le_of_ble_eq_true rfl) ?_
  intro p e s m args below meth c C0 hV ls hl
  have C0 : gg_C p s m args meth c RX0 cX0_numbersOf 6 (some .int) := C0
  obtain ⟨hx, hb, hml, hown, hts, hr, hlocks⟩ := id C0
  have hl : lv_has ls 6 [(0, .ref (ad 0)), (1, .ref a1), (2, .int a2), (3, .int a3)] := hl
  have hS : va_S A s.heap s.heap [] := va_S.rf
  have hC : 0 ≤ N := Nat.zero_le _
  have hA : xx_A sk A s := hV.2
  have hW : xx_W D E A ad sk σ s s.heap := hV.1
  unfold xxw_numbersOf at hw
  refine lv_iconst (v := (0 : Int32)) hx hb dX0_numbersOf_0 (by decide) ?_
  refine lv_istore (lv' := [(4, .int (0 : Int32)), (0, .ref (ad 0)), (1, .ref a1), (2, .int a2), (3, .int a3)]) hx hb dX0_numbersOf_1 hl (by decide) rfl (fun ls hl => ?_)
  refine lv_iconst (v := (0 : Int32)) hx hb dX0_numbersOf_3 (by decide) ?_
  refine lv_istore (lv' := [(5, .int (0 : Int32)), (4, .int (0 : Int32)), (0, .ref (ad 0)), (1, .ref a1), (2, .int a2), (3, .int a3)]) hx hb dX0_numbersOf_4 hl (by decide) rfl (fun ls hl => ?_)
  obtain ⟨n9, hw⟩ := hw
  exact xxk_numbersOf_6  C0 hA  n9 a1 a2 a3 (0 : Int32) (0 : Int32) 0 σ _ _ _ hw hC hW hS (lv_sub hl [2, 3, 4, 5, 1, 0] rfl)
theorem cd_X0_apronsOf : yX0_apronsOf.cls = RX0 ∧ yX0_apronsOf.cls ≠ "java/lang/invoke/MethodHandle" ∧ yX0_apronsOf.cls ≠ "java/lang/invoke/VarHandle" ∧ (parseMethodDescriptor yX0_apronsOf.desc).map (fun d => d.parameters.length) = some 4 := by decide +kernel
/-! GleanersForGaps.apronsOf(·Ljava/lang/Object;IIZ)I -/
def xxw_apronsOf_6 (N : Nat) (Q : Int32 → xx_S → Prop)  : Nat → Nat → Int32 → Int32 → Int32 → Int32 → Int32 → Nat → xx_S → Prop
  | 0, _, _, _, _, _, _, _, _ => False
  | n + 1, x1, x2, x3, x4, x5, x6, C, σ =>
    ((((99 : Int32) < x6) → (((x4 = 0) → Q x5 σ) ∧ (¬ (x4 = 0) → Q (-1 : Int32) σ))) ∧ (¬ ((99 : Int32) < x6) → (∃ N2 : Nat, C + N2 ≤ N ∧ xxw_isSoBy N2 x1 x2 x3 (2 : Int32) x6 σ (fun r4 σ3 => (((r4 = 0) → xxw_apronsOf_6 N Q n x1 x2 x3 x4 x5 (x6 + (1 : Int32)) (C + N2) σ3) ∧ (¬ (r4 = 0) → (((x4 = 0) → xxw_apronsOf_6 N Q n x1 x2 x3 x4 (x5 + (1 : Int32)) (x6 + (1 : Int32)) (C + N2) σ3) ∧ (¬ (x4 = 0) → Q x6 σ3))))))))
def xxw_apronsOf (N : Nat) (a1 : Nat) (a2 : Int32) (a3 : Int32) (a4 : Int32) (σ : xx_S) (Q : Int32 → xx_S → Prop) : Prop :=
    ∃ k9, xxw_apronsOf_6 N Q k9 a1 a2 a3 a4 (0 : Int32) (0 : Int32) 0 σ
abbrev xxr_apronsOf (N : Nat) : Room := { frames := 208, cells := N, slots := 64 * N, locals := 6156 }
set_option maxHeartbeats 4000000 in
set_option maxRecDepth 100000 in
theorem xxk_apronsOf_6 {p : Program} {l : Launch} {e : Env} {s : State} {m : MethodId} {args : Array Value} {below : List Frame} {meth : Method} {c : Code} {N : Nat} {D : va_G} {E : Nat → ClassId} {A : Nat → Prop} {ad sk : Nat → Nat} {Q : Int32 → xx_S → Prop}   (C0 : gg_C p s m args meth c RX0 cX0_apronsOf 7 (some .int)) (hA : xx_A sk A s) :
    ∀ n : Nat, ∀ (x1 : Nat) (x2 : Int32) (x3 : Int32) (x4 : Int32) (x5 : Int32) (x6 : Int32) (C : Nat) (σ : xx_S) (H : Heap) (locs : List Loc) (ls : Array Slot), xxw_apronsOf_6 N Q n x1 x2 x3 x4 x5 x6 C σ → C ≤ N → xx_W D E A ad sk σ s H → va_S A s.heap H locs → lv_has ls 7 [(0, .ref (ad 0)), (1, .ref x1), (2, .int x2), (3, .int x3), (4, .int x4), (5, .int x5), (6, .int x6)] → W p l e (xxr_apronsOf N) s m args below meth c H locs C (64 * C) (MQ below (va_Qi Q (fun u t => xx_W D E A ad sk u t t.heap) A) args s N (64 * N) A) (F0 m 6 ls []) := by
  obtain ⟨hx, hb, hml, hown, hts, hr, hlocks⟩ := id C0
  intro n
  induction n with
  | zero =>
    intro x1 x2 x3 x4 x5 x6 C σ H locs ls hw hC hW hS hl
    exact absurd hw (by unfold xxw_apronsOf_6; exact id)
  | succ n ih =>
    intro x1 x2 x3 x4 x5 x6 C σ H locs ls hw hC hW hS hl
    unfold xxw_apronsOf_6 at hw
    refine lv_iload hx hb dX0_apronsOf_6 (lv_at hl 6 rfl) ?_
    refine lv_bipush (v := (99 : Int32)) hx hb dX0_apronsOf_8 (by decide) ?_
    refine lv_icmp_gt (tgt := 43) hx hb dX0_apronsOf_10 (by decide) (fun c7 => ?_) (fun c7 => ?_)
    · have hw := hw.1 c7
      refine lv_iload hx hb dX0_apronsOf_43 (lv_at hl 4 rfl) ?_
      refine lv_if_eq (tgt := 52) hx hb dX0_apronsOf_45 (by decide) (fun c1 => ?_) (fun c1 => ?_)
      · have hw := hw.1 c1
        refine lv_iload hx hb dX0_apronsOf_52 (lv_at hl 5 rfl) ?_
        exact W.widen hC (Nat.mul_le_mul_left 64 hC) (gg_iret (xx_mv D E A ad sk) C0 hW hS hw dX0_apronsOf_54)
      · have hw := hw.2 c1
        refine lv_iconst (v := (-1 : Int32)) hx hb dX0_apronsOf_48 (by decide) ?_
        refine lv_goto (tgt := 54) hx hb dX0_apronsOf_49 (by decide) ?_
        exact W.widen hC (Nat.mul_le_mul_left 64 hC) (gg_iret (xx_mv D E A ad sk) C0 hW hS hw dX0_apronsOf_54)
    · have hw := hw.2 c7
      refine lv_aload_n hx hb dX0_apronsOf_13 rfl (lv_at hl 0 rfl) ?_
      refine lv_aload_n hx hb dX0_apronsOf_14 rfl (lv_at hl 1 rfl) ?_
      refine lv_iload_n hx hb dX0_apronsOf_15 rfl (lv_at hl 2 rfl) ?_
      refine lv_iload_n hx hb dX0_apronsOf_16 rfl (lv_at hl 3 rfl) ?_
      refine lv_iconst (v := (2 : Int32)) hx hb dX0_apronsOf_17 (by decide) ?_
      refine lv_iload hx hb dX0_apronsOf_18 (lv_at hl 6 rfl) ?_
      obtain ⟨N2, hC1, hw⟩ := hw
      refine xx_aW (k := C) (n1 := N2) ⟨hx, hb, hml, hown, hts⟩ hA (xxt_isSoBy l _ _ _ _ _ _ hw) (vx_cwVW (hh := [(9, 36, 48, 0), (48, 50, 48, 0)]) 5 hts (lw_VW q1096 q1098 qs52 q103 q1099) rfl rfl rfl cd_X0_isSoBy ⟨Nat.le_of_ble_eq_true rfl, Nat.le_of_ble_eq_true rfl⟩) hW (xx_recv hW) hS rfl hl.1 rfl (Nat.le_of_ble_eq_true rfl) dX0_apronsOf_20 ⟨hC1, Nat.mul_le_mul_left 64 hC1⟩ (fun r4 σ3 H locs hw hW hS => ?_)
      have hC := hC1
      obtain ⟨hz_r4, hw⟩ := hw
      refine lv_if_eq (tgt := 37) hx hb dX0_apronsOf_23 (by decide) (fun c6 => ?_) (fun c6 => ?_)
      · have hw := hw.1 c6
        refine lv_iinc (v := (x6 + (1 : Int32))) (lv' := [(6, .int (x6 + (1 : Int32))), (0, .ref (ad 0)), (1, .ref x1), (2, .int x2), (3, .int x3), (4, .int x4), (5, .int x5)]) hx hb dX0_apronsOf_37 hl (k := 6) rfl rfl (by decide) rfl (fun ls hl => ?_)
        refine lv_goto (tgt := 6) hx hb dX0_apronsOf_40 (by decide) ?_
        exact ih x1 x2 x3 x4 x5 (x6 + (1 : Int32)) (C + N2) σ3 _ _ _ hw hC hW hS (lv_sub hl [1, 2, 3, 4, 5, 6, 0] rfl)
      · have hw := hw.2 c6
        refine lv_iload hx hb dX0_apronsOf_26 (lv_at hl 4 rfl) ?_
        refine lv_if_eq (tgt := 34) hx hb dX0_apronsOf_28 (by decide) (fun c5 => ?_) (fun c5 => ?_)
        · have hw := hw.1 c5
          refine lv_iinc (v := (x5 + (1 : Int32))) (lv' := [(5, .int (x5 + (1 : Int32))), (0, .ref (ad 0)), (1, .ref x1), (2, .int x2), (3, .int x3), (4, .int x4), (6, .int x6)]) hx hb dX0_apronsOf_34 hl (k := 5) rfl rfl (by decide) rfl (fun ls hl => ?_)
          refine lv_iinc (v := (x6 + (1 : Int32))) (lv' := [(6, .int (x6 + (1 : Int32))), (5, .int (x5 + (1 : Int32))), (0, .ref (ad 0)), (1, .ref x1), (2, .int x2), (3, .int x3), (4, .int x4)]) hx hb dX0_apronsOf_37 hl (k := 6) rfl rfl (by decide) rfl (fun ls hl => ?_)
          refine lv_goto (tgt := 6) hx hb dX0_apronsOf_40 (by decide) ?_
          exact ih x1 x2 x3 x4 (x5 + (1 : Int32)) (x6 + (1 : Int32)) (C + N2) σ3 _ _ _ hw hC hW hS (lv_sub hl [2, 3, 4, 5, 6, 1, 0] rfl)
        · have hw := hw.2 c5
          refine lv_iload hx hb dX0_apronsOf_31 (lv_at hl 6 rfl) ?_
          exact W.widen hC (Nat.mul_le_mul_left 64 hC) (gg_iret (xx_mv D E A ad sk) C0 hW hS hw dX0_apronsOf_33)
set_option maxHeartbeats 4000000 in
set_option maxRecDepth 100000 in
theorem xxt_apronsOf (l : Launch) {N : Nat} {D : va_G} {E : Nat → ClassId} {A : Nat → Prop} {ad sk : Nat → Nat}  (a1 : Nat) (a2 : Int32) (a3 : Int32) (a4 : Int32) (σ : xx_S) {Q : Int32 → xx_S → Prop} (hw : xxw_apronsOf N a1 a2 a3 a4 σ Q) :
    Met l yX0_apronsOf (ws_ yX0_apronsOf cX0_apronsOf 7 (some .int)) (xxr_apronsOf N) (va_Pc [.ref (ad 0), .ref a1, .int a2, .int a3, .int a4] (fun U => xx_V D E A ad sk σ U U.heap)) (va_Qi Q (fun u t => xx_W D E A ad sk u t t.heap) A) N (64 * N) A := by
  refine gg_entry (W0 := fun s H => xx_V D E A ad sk σ s H) (by decide) (Nat.le_of_ble_eq_true rfl) ?_
  intro p e s m args below meth c C0 hV ls hl
  have C0 : gg_C p s m args meth c RX0 cX0_apronsOf 7 (some .int) := C0
  obtain ⟨hx, hb, hml, hown, hts, hr, hlocks⟩ := id C0
  have hl : lv_has ls 7 [(0, .ref (ad 0)), (1, .ref a1), (2, .int a2), (3, .int a3), (4, .int a4)] := hl
  have hS : va_S A s.heap s.heap [] := va_S.rf
  have hC : 0 ≤ N := Nat.zero_le _
  have hA : xx_A sk A s := hV.2
  have hW : xx_W D E A ad sk σ s s.heap := hV.1
  unfold xxw_apronsOf at hw
  refine lv_iconst (v := (0 : Int32)) hx hb dX0_apronsOf_0 (by decide) ?_
  refine lv_istore (lv' := [(5, .int (0 : Int32)), (0, .ref (ad 0)), (1, .ref a1), (2, .int a2), (3, .int a3), (4, .int a4)]) hx hb dX0_apronsOf_1 hl (by decide) rfl (fun ls hl => ?_)
  refine lv_iconst (v := (0 : Int32)) hx hb dX0_apronsOf_3 (by decide) ?_
  refine lv_istore (lv' := [(6, .int (0 : Int32)), (5, .int (0 : Int32)), (0, .ref (ad 0)), (1, .ref a1), (2, .int a2), (3, .int a3), (4, .int a4)]) hx hb dX0_apronsOf_4 hl (by decide) rfl (fun ls hl => ?_)
  obtain ⟨n9, hw⟩ := hw
  exact xxk_apronsOf_6  C0 hA  n9 a1 a2 a3 a4 (0 : Int32) (0 : Int32) 0 σ _ _ _ hw hC hW hS (lv_sub hl [2, 3, 4, 5, 6, 1, 0] rfl)
theorem cd_X0_textsOf : yX0_textsOf.cls = RX0 ∧ yX0_textsOf.cls ≠ "java/lang/invoke/MethodHandle" ∧ yX0_textsOf.cls ≠ "java/lang/invoke/VarHandle" ∧ (parseMethodDescriptor yX0_textsOf.desc).map (fun d => d.parameters.length) = some 3 := by decide +kernel
/-! GleanersForGaps.textsOf(·Ljava/lang/Object;II)I -/
def xxw_textsOf_48 (N : Nat) (Q : Int32 → xx_S → Prop) (K12 : Nat → Int32 → Int32 → Int32 → Int32 → Int32 → Nat → xx_S → Prop) (x1 : Nat) (x2 : Int32) (x3 : Int32) (x4 : Int32) (x6 : Int32) (s0 : Int32) (s1 : Int32) (C : Nat) (σ : xx_S) : Prop :=
    K12 x1 x2 x3 x4 (s0 ||| s1) (x6 + (1 : Int32)) C σ
def xxw_textsOf_12 (N : Nat) (Q : Int32 → xx_S → Prop)  : Nat → Nat → Int32 → Int32 → Int32 → Int32 → Int32 → Nat → xx_S → Prop
  | 0, _, _, _, _, _, _, _, _ => False
  | n + 1, x1, x2, x3, x4, x5, x6, C, σ =>
    ((((xx_g σ 0 13) ≤ x6) → (∀ σ1 : xx_S, σ1 = xx_s σ 0 24 x4 → Q x5 σ1)) ∧ (¬ ((xx_g σ 0 13) ≤ x6) → (∀ σ2 : xx_S, σ2 = xx_s σ 0 24 x6 → (∃ N3 : Nat, C + N3 ≤ N ∧ xxw_otherwise N3 x1 x2 x3 σ2 (fun r5 σ4 => (((r5 = (-1 : Int32)) → xxw_textsOf_48 N Q (fun y0 y1 y2 y3 y4 y5 y6 τ => xxw_textsOf_12 N Q n y0 y1 y2 y3 y4 y5 y6 τ) x1 x2 x3 x4 x6 x5 ((1 : Int32) <<< (x6 &&& 31)) (C + N3) σ4) ∧ (¬ (r5 = (-1 : Int32)) → xxw_textsOf_48 N Q (fun y0 y1 y2 y3 y4 y5 y6 τ => xxw_textsOf_12 N Q n y0 y1 y2 y3 y4 y5 y6 τ) x1 x2 x3 x4 x6 x5 (0 : Int32) (C + N3) σ4)))))))
def xxw_textsOf (N : Nat) (a1 : Nat) (a2 : Int32) (a3 : Int32) (σ : xx_S) (Q : Int32 → xx_S → Prop) : Prop :=
    ∃ k9, xxw_textsOf_12 N Q k9 a1 a2 a3 (xx_g σ 0 24) (0 : Int32) (0 : Int32) 0 σ
abbrev xxr_textsOf (N : Nat) : Room := { frames := 207, cells := N, slots := 64 * N, locals := 6128 }
set_option maxHeartbeats 4000000 in
set_option maxRecDepth 100000 in
theorem xxk_textsOf_48 {p : Program} {l : Launch} {e : Env} {s : State} {m : MethodId} {args : Array Value} {below : List Frame} {meth : Method} {c : Code} {N : Nat} {D : va_G} {E : Nat → ClassId} {A : Nat → Prop} {ad sk : Nat → Nat} {Q : Int32 → xx_S → Prop} {K12 : Nat → Int32 → Int32 → Int32 → Int32 → Int32 → Nat → xx_S → Prop}  (C0 : gg_C p s m args meth c RX0 cX0_textsOf 8 (some .int)) (hA : xx_A sk A s) (hK12 : ∀ (x1 : Nat) (x2 : Int32) (x3 : Int32) (x4 : Int32) (x5 : Int32) (x6 : Int32) (C : Nat) (σ : xx_S) (H : Heap) (locs : List Loc) (ls : Array Slot), K12 x1 x2 x3 x4 x5 x6 C σ → C ≤ N → xx_W D E A ad sk σ s H → va_S A s.heap H locs → lv_has ls 8 [(0, .ref (ad 0)), (1, .ref x1), (2, .int x2), (3, .int x3), (4, .int x4), (5, .int x5), (6, .int x6)] → W p l e (xxr_textsOf N) s m args below meth c H locs C (64 * C) (MQ below (va_Qi Q (fun u t => xx_W D E A ad sk u t t.heap) A) args s N (64 * N) A) (F0 m 12 ls [])) :
    ∀ (x1 : Nat) (x2 : Int32) (x3 : Int32) (x4 : Int32) (x6 : Int32) (s0 : Int32) (s1 : Int32) (C : Nat) (σ : xx_S) (H : Heap) (locs : List Loc) (ls : Array Slot), xxw_textsOf_48 N Q K12 x1 x2 x3 x4 x6 s0 s1 C σ → C ≤ N → xx_W D E A ad sk σ s H → va_S A s.heap H locs → lv_has ls 8 [(0, .ref (ad 0)), (1, .ref x1), (2, .int x2), (3, .int x3), (4, .int x4), (6, .int x6)] → W p l e (xxr_textsOf N) s m args below meth c H locs C (64 * C) (MQ below (va_Qi Q (fun u t => xx_W D E A ad sk u t t.heap) A) args s N (64 * N) A) (F0 m 48 ls [.int s1, .int s0]) := by
  obtain ⟨hx, hb, hml, hown, hts, hr, hlocks⟩ := id C0
  intro x1 x2 x3 x4 x6 s0 s1 C σ H locs ls hw hC hW hS hl
  unfold xxw_textsOf_48 at hw
  refine lv_ior hx hb dX0_textsOf_48 ?_
  refine lv_istore (lv' := [(5, .int (s0 ||| s1)), (0, .ref (ad 0)), (1, .ref x1), (2, .int x2), (3, .int x3), (4, .int x4), (6, .int x6)]) hx hb dX0_textsOf_49 hl (by decide) rfl (fun ls hl => ?_)
  refine lv_iinc (v := (x6 + (1 : Int32))) (lv' := [(6, .int (x6 + (1 : Int32))), (5, .int (s0 ||| s1)), (0, .ref (ad 0)), (1, .ref x1), (2, .int x2), (3, .int x3), (4, .int x4)]) hx hb dX0_textsOf_51 hl (k := 6) rfl rfl (by decide) rfl (fun ls hl => ?_)
  refine lv_goto (tgt := 12) hx hb dX0_textsOf_54 (by decide) ?_
  exact hK12 x1 x2 x3 x4 (s0 ||| s1) (x6 + (1 : Int32)) C σ _ _ _ hw hC hW hS (lv_sub hl [2, 3, 4, 5, 6, 1, 0] rfl)
set_option maxHeartbeats 4000000 in
set_option maxRecDepth 100000 in
theorem xxk_textsOf_12 {p : Program} {l : Launch} {e : Env} {s : State} {m : MethodId} {args : Array Value} {below : List Frame} {meth : Method} {c : Code} {N : Nat} {D : va_G} {E : Nat → ClassId} {A : Nat → Prop} {ad sk : Nat → Nat} {Q : Int32 → xx_S → Prop}   (C0 : gg_C p s m args meth c RX0 cX0_textsOf 8 (some .int)) (hA : xx_A sk A s) :
    ∀ n : Nat, ∀ (x1 : Nat) (x2 : Int32) (x3 : Int32) (x4 : Int32) (x5 : Int32) (x6 : Int32) (C : Nat) (σ : xx_S) (H : Heap) (locs : List Loc) (ls : Array Slot), xxw_textsOf_12 N Q n x1 x2 x3 x4 x5 x6 C σ → C ≤ N → xx_W D E A ad sk σ s H → va_S A s.heap H locs → lv_has ls 8 [(0, .ref (ad 0)), (1, .ref x1), (2, .int x2), (3, .int x3), (4, .int x4), (5, .int x5), (6, .int x6)] → W p l e (xxr_textsOf N) s m args below meth c H locs C (64 * C) (MQ below (va_Qi Q (fun u t => xx_W D E A ad sk u t t.heap) A) args s N (64 * N) A) (F0 m 12 ls []) := by
  obtain ⟨hx, hb, hml, hown, hts, hr, hlocks⟩ := id C0
  intro n
  induction n with
  | zero =>
    intro x1 x2 x3 x4 x5 x6 C σ H locs ls hw hC hW hS hl
    exact absurd hw (by unfold xxw_textsOf_12; exact id)
  | succ n ih =>
    intro x1 x2 x3 x4 x5 x6 C σ H locs ls hw hC hW hS hl
    unfold xxw_textsOf_12 at hw
    refine lv_iload hx hb dX0_textsOf_12 (lv_at hl 6 rfl) ?_
    refine lv_aload_n hx hb dX0_textsOf_14 rfl (lv_at hl 0 rfl) ?_
    refine xx_geti hx hb hts hown hW 13 (by decide) q763 dX0_textsOf_15 ?_
    refine lv_icmp_ge (tgt := 57) hx hb dX0_textsOf_18 (by decide) (fun c7 => ?_) (fun c7 => ?_)
    · have hw := hw.1 c7
      refine lv_aload_n hx hb dX0_textsOf_57 rfl (lv_at hl 0 rfl) ?_
      refine lv_iload hx hb dX0_textsOf_58 (lv_at hl 4 rfl) ?_
      refine xx_puti hx hb hts hown hW hS 24 (by decide) q774 rfl rfl rfl dX0_textsOf_60 (fun H locs hW hS => ?_)
      obtain ⟨σ1, eσ1⟩ : ∃ z, z = xx_s σ 0 24 x4 := ⟨_, rfl⟩
      rw [← eσ1] at hW
      have hw := hw σ1 eσ1
      refine lv_goto (tgt := 77) hx hb dX0_textsOf_63 (by decide) ?_
      refine lv_iload hx hb dX0_textsOf_77 (lv_at hl 5 rfl) ?_
      exact W.widen hC (Nat.mul_le_mul_left 64 hC) (gg_iret (xx_mv D E A ad sk) C0 hW hS hw dX0_textsOf_79)
    · have hw := hw.2 c7
      refine lv_aload_n hx hb dX0_textsOf_21 rfl (lv_at hl 0 rfl) ?_
      refine lv_iload hx hb dX0_textsOf_22 (lv_at hl 6 rfl) ?_
      refine xx_puti hx hb hts hown hW hS 24 (by decide) q774 rfl rfl rfl dX0_textsOf_24 (fun H locs hW hS => ?_)
      obtain ⟨σ2, eσ2⟩ : ∃ z, z = xx_s σ 0 24 x6 := ⟨_, rfl⟩
      rw [← eσ2] at hW
      have hw := hw σ2 eσ2
      refine lv_iload hx hb dX0_textsOf_27 (lv_at hl 5 rfl) ?_
      refine lv_aload_n hx hb dX0_textsOf_29 rfl (lv_at hl 0 rfl) ?_
      refine lv_aload_n hx hb dX0_textsOf_30 rfl (lv_at hl 1 rfl) ?_
      refine lv_iload_n hx hb dX0_textsOf_31 rfl (lv_at hl 2 rfl) ?_
      refine lv_iload_n hx hb dX0_textsOf_32 rfl (lv_at hl 3 rfl) ?_
      obtain ⟨N3, hC1, hw⟩ := hw
      refine xx_aW (k := C) (n1 := N3) ⟨hx, hb, hml, hown, hts⟩ hA (xxt_otherwise l _ _ _ _ hw) (vx_cwVW (hh := [(5, 52, 77, 0), (60, 69, 77, 0), (77, 79, 77, 0)]) 3 hts (lw_VW q1043 q1045 qs48 q103 q1046) rfl rfl rfl cd_X0_otherwise ⟨Nat.le_of_ble_eq_true rfl, Nat.le_of_ble_eq_true rfl⟩) hW (xx_recv hW) hS rfl hl.1 rfl (Nat.le_of_ble_eq_true rfl) dX0_textsOf_33 ⟨hC1, Nat.mul_le_mul_left 64 hC1⟩ (fun r5 σ4 H locs hw hW hS => ?_)
      have hC := hC1
      refine lv_iconst (v := (-1 : Int32)) hx hb dX0_textsOf_36 (by decide) ?_
      refine lv_icmp_ne (tgt := 47) hx hb dX0_textsOf_37 (by decide) (fun c6 => ?_) (fun c6 => ?_)
      · have hw := hw.2 c6
        refine lv_iconst (v := (0 : Int32)) hx hb dX0_textsOf_47 (by decide) ?_
        exact xxk_textsOf_48  C0 hA (fun y0 y1 y2 y3 y4 y5 y6 τ H9 l9 s9 => ih y0 y1 y2 y3 y4 y5 y6 τ H9 l9 s9) x1 x2 x3 x4 x6 x5 (0 : Int32) (C + N3) σ4 _ _ _ hw hC hW hS (lv_sub hl [0, 1, 2, 3, 4, 6] rfl)
      · have hw := hw.1 c6
        refine lv_iconst (v := (1 : Int32)) hx hb dX0_textsOf_40 (by decide) ?_
        refine lv_iload hx hb dX0_textsOf_41 (lv_at hl 6 rfl) ?_
        refine lv_ishl hx hb dX0_textsOf_43 ?_
        refine lv_goto (tgt := 48) hx hb dX0_textsOf_44 (by decide) ?_
        exact xxk_textsOf_48  C0 hA (fun y0 y1 y2 y3 y4 y5 y6 τ H9 l9 s9 => ih y0 y1 y2 y3 y4 y5 y6 τ H9 l9 s9) x1 x2 x3 x4 x6 x5 ((1 : Int32) <<< (x6 &&& 31)) (C + N3) σ4 _ _ _ hw hC hW hS (lv_sub hl [0, 1, 2, 3, 4, 6] rfl)
set_option maxHeartbeats 4000000 in
set_option maxRecDepth 100000 in
theorem xxt_textsOf (l : Launch) {N : Nat} {D : va_G} {E : Nat → ClassId} {A : Nat → Prop} {ad sk : Nat → Nat}  (a1 : Nat) (a2 : Int32) (a3 : Int32) (σ : xx_S) {Q : Int32 → xx_S → Prop} (hw : xxw_textsOf N a1 a2 a3 σ Q) :
    Met l yX0_textsOf (wsW_ yX0_textsOf cX0_textsOf 8 (some .int) [(9, 57, 66, 0), (66, 68, 66, 0)]) (xxr_textsOf N) (va_Pc [.ref (ad 0), .ref a1, .int a2, .int a3] (fun U => xx_V D E A ad sk σ U U.heap)) (va_Qi Q (fun u t => xx_W D E A ad sk u t t.heap) A) N (64 * N) A := by
  refine gg_entryW (W0 := fun s H => xx_V D E A ad sk σ s H) (by decide) (Nat.le_of_ble_eq_true rfl) ?_
  intro p e s m args below meth c C0 hV ls hl
  have C0 : gg_C p s m args meth c RX0 cX0_textsOf 8 (some .int) := C0
  obtain ⟨hx, hb, hml, hown, hts, hr, hlocks⟩ := id C0
  have hl : lv_has ls 8 [(0, .ref (ad 0)), (1, .ref a1), (2, .int a2), (3, .int a3)] := hl
  have hS : va_S A s.heap s.heap [] := va_S.rf
  have hC : 0 ≤ N := Nat.zero_le _
  have hA : xx_A sk A s := hV.2
  have hW : xx_W D E A ad sk σ s s.heap := hV.1
  unfold xxw_textsOf at hw
  refine lv_aload_n hx hb dX0_textsOf_0 rfl (lv_at hl 0 rfl) ?_
  refine xx_geti hx hb hts hown hW 24 (by decide) q774 dX0_textsOf_1 ?_
  refine lv_istore (lv' := [(4, .int (xx_g σ 0 24)), (0, .ref (ad 0)), (1, .ref a1), (2, .int a2), (3, .int a3)]) hx hb dX0_textsOf_4 hl (by decide) rfl (fun ls hl => ?_)
  refine lv_iconst (v := (0 : Int32)) hx hb dX0_textsOf_6 (by decide) ?_
  refine lv_istore (lv' := [(5, .int (0 : Int32)), (4, .int (xx_g σ 0 24)), (0, .ref (ad 0)), (1, .ref a1), (2, .int a2), (3, .int a3)]) hx hb dX0_textsOf_7 hl (by decide) rfl (fun ls hl => ?_)
  refine lv_iconst (v := (0 : Int32)) hx hb dX0_textsOf_9 (by decide) ?_
  refine lv_istore (lv' := [(6, .int (0 : Int32)), (5, .int (0 : Int32)), (4, .int (xx_g σ 0 24)), (0, .ref (ad 0)), (1, .ref a1), (2, .int a2), (3, .int a3)]) hx hb dX0_textsOf_10 hl (by decide) rfl (fun ls hl => ?_)
  obtain ⟨n9, hw⟩ := hw
  exact xxk_textsOf_12  C0 hA  n9 a1 a2 a3 (xx_g σ 0 24) (0 : Int32) (0 : Int32) 0 σ _ _ _ hw hC hW hS (lv_sub hl [3, 4, 5, 6, 2, 1, 0] rfl)
theorem cd_X0_whoseOf : yX0_whoseOf.cls = RX0 ∧ yX0_whoseOf.cls ≠ "java/lang/invoke/MethodHandle" ∧ yX0_whoseOf.cls ≠ "java/lang/invoke/VarHandle" ∧ (parseMethodDescriptor yX0_whoseOf.desc).map (fun d => d.parameters.length) = some 2 := by decide +kernel
/-! GleanersForGaps.whoseOf(·Ljava/lang/Object;I)I -/
def xxw_whoseOf_35 (N : Nat) (Q : Int32 → xx_S → Prop) (K5 : Nat → Int32 → Int32 → Int32 → Nat → xx_S → Prop) (x1 : Nat) (x2 : Int32) (x4 : Int32) (s0 : Int32) (s1 : Int32) (C : Nat) (σ : xx_S) : Prop :=
    K5 x1 x2 (s0 ||| s1) (x4 + (1 : Int32)) C σ
def xxw_whoseOf_5 (N : Nat) (Q : Int32 → xx_S → Prop)  : Nat → Nat → Int32 → Int32 → Int32 → Nat → xx_S → Prop
  | 0, _, _, _, _, _, _ => False
  | n + 1, x1, x2, x3, x4, C, σ =>
    ((((xx_g σ 0 1) ≤ x4) → Q x3 σ) ∧ (¬ ((xx_g σ 0 1) ≤ x4) → (∃ N1 : Nat, C + N1 ≤ N ∧ xxw_otherwise N1 x1 x4 x2 σ (fun r3 σ2 => (((r3 = (-1 : Int32)) → xxw_whoseOf_35 N Q (fun y0 y1 y2 y3 y4 τ => xxw_whoseOf_5 N Q n y0 y1 y2 y3 y4 τ) x1 x2 x4 x3 ((1 : Int32) <<< (x4 &&& 31)) (C + N1) σ2) ∧ (¬ (r3 = (-1 : Int32)) → xxw_whoseOf_35 N Q (fun y0 y1 y2 y3 y4 τ => xxw_whoseOf_5 N Q n y0 y1 y2 y3 y4 τ) x1 x2 x4 x3 (0 : Int32) (C + N1) σ2))))))
def xxw_whoseOf (N : Nat) (a1 : Nat) (a2 : Int32) (σ : xx_S) (Q : Int32 → xx_S → Prop) : Prop :=
    ∃ k9, xxw_whoseOf_5 N Q k9 a1 a2 (0 : Int32) (0 : Int32) 0 σ
abbrev xxr_whoseOf (N : Nat) : Room := { frames := 207, cells := N, slots := 64 * N, locals := 6128 }
set_option maxHeartbeats 4000000 in
set_option maxRecDepth 100000 in
theorem xxk_whoseOf_35 {p : Program} {l : Launch} {e : Env} {s : State} {m : MethodId} {args : Array Value} {below : List Frame} {meth : Method} {c : Code} {N : Nat} {D : va_G} {E : Nat → ClassId} {A : Nat → Prop} {ad sk : Nat → Nat} {Q : Int32 → xx_S → Prop} {K5 : Nat → Int32 → Int32 → Int32 → Nat → xx_S → Prop}  (C0 : gg_C p s m args meth c RX0 cX0_whoseOf 5 (some .int)) (hA : xx_A sk A s) (hK5 : ∀ (x1 : Nat) (x2 : Int32) (x3 : Int32) (x4 : Int32) (C : Nat) (σ : xx_S) (H : Heap) (locs : List Loc) (ls : Array Slot), K5 x1 x2 x3 x4 C σ → C ≤ N → xx_W D E A ad sk σ s H → va_S A s.heap H locs → lv_has ls 5 [(0, .ref (ad 0)), (1, .ref x1), (2, .int x2), (3, .int x3), (4, .int x4)] → W p l e (xxr_whoseOf N) s m args below meth c H locs C (64 * C) (MQ below (va_Qi Q (fun u t => xx_W D E A ad sk u t t.heap) A) args s N (64 * N) A) (F0 m 5 ls [])) :
    ∀ (x1 : Nat) (x2 : Int32) (x4 : Int32) (s0 : Int32) (s1 : Int32) (C : Nat) (σ : xx_S) (H : Heap) (locs : List Loc) (ls : Array Slot), xxw_whoseOf_35 N Q K5 x1 x2 x4 s0 s1 C σ → C ≤ N → xx_W D E A ad sk σ s H → va_S A s.heap H locs → lv_has ls 5 [(0, .ref (ad 0)), (1, .ref x1), (2, .int x2), (4, .int x4)] → W p l e (xxr_whoseOf N) s m args below meth c H locs C (64 * C) (MQ below (va_Qi Q (fun u t => xx_W D E A ad sk u t t.heap) A) args s N (64 * N) A) (F0 m 35 ls [.int s1, .int s0]) := by
  obtain ⟨hx, hb, hml, hown, hts, hr, hlocks⟩ := id C0
  intro x1 x2 x4 s0 s1 C σ H locs ls hw hC hW hS hl
  unfold xxw_whoseOf_35 at hw
  refine lv_ior hx hb dX0_whoseOf_35 ?_
  refine lv_istore_n (lv' := [(3, .int (s0 ||| s1)), (0, .ref (ad 0)), (1, .ref x1), (2, .int x2), (4, .int x4)]) hx hb dX0_whoseOf_36 rfl hl (by decide) rfl (fun ls hl => ?_)
  refine lv_iinc (v := (x4 + (1 : Int32))) (lv' := [(4, .int (x4 + (1 : Int32))), (3, .int (s0 ||| s1)), (0, .ref (ad 0)), (1, .ref x1), (2, .int x2)]) hx hb dX0_whoseOf_37 hl (k := 4) rfl rfl (by decide) rfl (fun ls hl => ?_)
  refine lv_goto (tgt := 5) hx hb dX0_whoseOf_40 (by decide) ?_
  exact hK5 x1 x2 (s0 ||| s1) (x4 + (1 : Int32)) C σ _ _ _ hw hC hW hS (lv_sub hl [2, 3, 4, 1, 0] rfl)
set_option maxHeartbeats 4000000 in
set_option maxRecDepth 100000 in
theorem xxk_whoseOf_5 {p : Program} {l : Launch} {e : Env} {s : State} {m : MethodId} {args : Array Value} {below : List Frame} {meth : Method} {c : Code} {N : Nat} {D : va_G} {E : Nat → ClassId} {A : Nat → Prop} {ad sk : Nat → Nat} {Q : Int32 → xx_S → Prop}   (C0 : gg_C p s m args meth c RX0 cX0_whoseOf 5 (some .int)) (hA : xx_A sk A s) :
    ∀ n : Nat, ∀ (x1 : Nat) (x2 : Int32) (x3 : Int32) (x4 : Int32) (C : Nat) (σ : xx_S) (H : Heap) (locs : List Loc) (ls : Array Slot), xxw_whoseOf_5 N Q n x1 x2 x3 x4 C σ → C ≤ N → xx_W D E A ad sk σ s H → va_S A s.heap H locs → lv_has ls 5 [(0, .ref (ad 0)), (1, .ref x1), (2, .int x2), (3, .int x3), (4, .int x4)] → W p l e (xxr_whoseOf N) s m args below meth c H locs C (64 * C) (MQ below (va_Qi Q (fun u t => xx_W D E A ad sk u t t.heap) A) args s N (64 * N) A) (F0 m 5 ls []) := by
  obtain ⟨hx, hb, hml, hown, hts, hr, hlocks⟩ := id C0
  intro n
  induction n with
  | zero =>
    intro x1 x2 x3 x4 C σ H locs ls hw hC hW hS hl
    exact absurd hw (by unfold xxw_whoseOf_5; exact id)
  | succ n ih =>
    intro x1 x2 x3 x4 C σ H locs ls hw hC hW hS hl
    unfold xxw_whoseOf_5 at hw
    refine lv_iload hx hb dX0_whoseOf_5 (lv_at hl 4 rfl) ?_
    refine lv_aload_n hx hb dX0_whoseOf_7 rfl (lv_at hl 0 rfl) ?_
    refine xx_geti hx hb hts hown hW 1 (by decide) q745 dX0_whoseOf_8 ?_
    refine lv_icmp_ge (tgt := 43) hx hb dX0_whoseOf_11 (by decide) (fun c5 => ?_) (fun c5 => ?_)
    · have hw := hw.1 c5
      refine lv_iload_n hx hb dX0_whoseOf_43 rfl (lv_at hl 3 rfl) ?_
      exact W.widen hC (Nat.mul_le_mul_left 64 hC) (gg_iret (xx_mv D E A ad sk) C0 hW hS hw dX0_whoseOf_44)
    · have hw := hw.2 c5
      refine lv_iload_n hx hb dX0_whoseOf_14 rfl (lv_at hl 3 rfl) ?_
      refine lv_aload_n hx hb dX0_whoseOf_15 rfl (lv_at hl 0 rfl) ?_
      refine lv_aload_n hx hb dX0_whoseOf_16 rfl (lv_at hl 1 rfl) ?_
      refine lv_iload hx hb dX0_whoseOf_17 (lv_at hl 4 rfl) ?_
      refine lv_iload_n hx hb dX0_whoseOf_19 rfl (lv_at hl 2 rfl) ?_
      obtain ⟨N1, hC1, hw⟩ := hw
      refine xx_aW (k := C) (n1 := N1) ⟨hx, hb, hml, hown, hts⟩ hA (xxt_otherwise l _ _ _ _ hw) (vx_cwVW (hh := [(5, 52, 77, 0), (60, 69, 77, 0), (77, 79, 77, 0)]) 3 hts (lw_VW q1043 q1045 qs48 q103 q1046) rfl rfl rfl cd_X0_otherwise ⟨Nat.le_of_ble_eq_true rfl, Nat.le_of_ble_eq_true rfl⟩) hW (xx_recv hW) hS rfl hl.1 rfl (Nat.le_of_ble_eq_true rfl) dX0_whoseOf_20 ⟨hC1, Nat.mul_le_mul_left 64 hC1⟩ (fun r3 σ2 H locs hw hW hS => ?_)
      have hC := hC1
      refine lv_iconst (v := (-1 : Int32)) hx hb dX0_whoseOf_23 (by decide) ?_
      refine lv_icmp_ne (tgt := 34) hx hb dX0_whoseOf_24 (by decide) (fun c4 => ?_) (fun c4 => ?_)
      · have hw := hw.2 c4
        refine lv_iconst (v := (0 : Int32)) hx hb dX0_whoseOf_34 (by decide) ?_
        exact xxk_whoseOf_35  C0 hA (fun y0 y1 y2 y3 y4 τ H9 l9 s9 => ih y0 y1 y2 y3 y4 τ H9 l9 s9) x1 x2 x4 x3 (0 : Int32) (C + N1) σ2 _ _ _ hw hC hW hS (lv_sub hl [0, 1, 2, 4] rfl)
      · have hw := hw.1 c4
        refine lv_iconst (v := (1 : Int32)) hx hb dX0_whoseOf_27 (by decide) ?_
        refine lv_iload hx hb dX0_whoseOf_28 (lv_at hl 4 rfl) ?_
        refine lv_ishl hx hb dX0_whoseOf_30 ?_
        refine lv_goto (tgt := 35) hx hb dX0_whoseOf_31 (by decide) ?_
        exact xxk_whoseOf_35  C0 hA (fun y0 y1 y2 y3 y4 τ H9 l9 s9 => ih y0 y1 y2 y3 y4 τ H9 l9 s9) x1 x2 x4 x3 ((1 : Int32) <<< (x4 &&& 31)) (C + N1) σ2 _ _ _ hw hC hW hS (lv_sub hl [0, 1, 2, 4] rfl)
set_option maxHeartbeats 4000000 in
set_option maxRecDepth 100000 in
theorem xxt_whoseOf (l : Launch) {N : Nat} {D : va_G} {E : Nat → ClassId} {A : Nat → Prop} {ad sk : Nat → Nat}  (a1 : Nat) (a2 : Int32) (σ : xx_S) {Q : Int32 → xx_S → Prop} (hw : xxw_whoseOf N a1 a2 σ Q) :
    Met l yX0_whoseOf (ws_ yX0_whoseOf cX0_whoseOf 5 (some .int)) (xxr_whoseOf N) (va_Pc [.ref (ad 0), .ref a1, .int a2] (fun U => xx_V D E A ad sk σ U U.heap)) (va_Qi Q (fun u t => xx_W D E A ad sk u t t.heap) A) N (64 * N) A := by
  refine gg_entry (W0 := fun s H => xx_V D E A ad sk σ s H) (by decide) (Nat.le_of_ble_eq_true rfl) ?_
  intro p e s m args below meth c C0 hV ls hl
  have C0 : gg_C p s m args meth c RX0 cX0_whoseOf 5 (some .int) := C0
  obtain ⟨hx, hb, hml, hown, hts, hr, hlocks⟩ := id C0
  have hl : lv_has ls 5 [(0, .ref (ad 0)), (1, .ref a1), (2, .int a2)] := hl
  have hS : va_S A s.heap s.heap [] := va_S.rf
  have hC : 0 ≤ N := Nat.zero_le _
  have hA : xx_A sk A s := hV.2
  have hW : xx_W D E A ad sk σ s s.heap := hV.1
  unfold xxw_whoseOf at hw
  refine lv_iconst (v := (0 : Int32)) hx hb dX0_whoseOf_0 (by decide) ?_
  refine lv_istore_n (lv' := [(3, .int (0 : Int32)), (0, .ref (ad 0)), (1, .ref a1), (2, .int a2)]) hx hb dX0_whoseOf_1 rfl hl (by decide) rfl (fun ls hl => ?_)
  refine lv_iconst (v := (0 : Int32)) hx hb dX0_whoseOf_2 (by decide) ?_
  refine lv_istore (lv' := [(4, .int (0 : Int32)), (3, .int (0 : Int32)), (0, .ref (ad 0)), (1, .ref a1), (2, .int a2)]) hx hb dX0_whoseOf_3 hl (by decide) rfl (fun ls hl => ?_)
  obtain ⟨n9, hw⟩ := hw
  exact xxk_whoseOf_5  C0 hA  n9 a1 a2 (0 : Int32) (0 : Int32) 0 σ _ _ _ hw hC hW hS (lv_sub hl [2, 3, 4, 1, 0] rfl)
theorem cd_X0_rowsOf : yX0_rowsOf.cls = RX0 ∧ yX0_rowsOf.cls ≠ "java/lang/invoke/MethodHandle" ∧ yX0_rowsOf.cls ≠ "java/lang/invoke/VarHandle" ∧ (parseMethodDescriptor yX0_rowsOf.desc).map (fun d => d.parameters.length) = some 2 := by decide +kernel
/-! GleanersForGaps.rowsOf(·Ljava/lang/Object;I)I -/
def xxw_rowsOf_61 (N : Nat) (Q : Int32 → xx_S → Prop) (K5 : Nat → Int32 → Int32 → Int32 → Nat → xx_S → Prop) (x1 : Nat) (x2 : Int32) (x4 : Int32) (s0 : Int32) (s1 : Int32) (C : Nat) (σ : xx_S) : Prop :=
    K5 x1 x2 (s0 ||| s1) (x4 + (1 : Int32)) C σ
def xxw_rowsOf_60 (N : Nat) (Q : Int32 → xx_S → Prop) (K5 : Nat → Int32 → Int32 → Int32 → Nat → xx_S → Prop) (x1 : Nat) (x2 : Int32) (x4 : Int32) (s0 : Int32) (C : Nat) (σ : xx_S) : Prop :=
    xxw_rowsOf_61 N Q K5 x1 x2 x4 s0 (0 : Int32) C σ
def xxw_rowsOf_33 (N : Nat) (Q : Int32 → xx_S → Prop) (K5 : Nat → Int32 → Int32 → Int32 → Nat → xx_S → Prop) (x1 : Nat) (x2 : Int32) (x3 : Int32) (x4 : Int32) (s0 : Int32) (C : Nat) (σ : xx_S) : Prop :=
    (((s0 = 0) → xxw_rowsOf_60 N Q K5 x1 x2 x4 x3 C σ) ∧ (¬ (s0 = 0) → (∃ N9 : Nat, C + N9 ≤ N ∧ xxw_otherwise N9 x1 x2 x4 σ (fun r11 σ10 => (((r11 = (-1 : Int32)) → xxw_rowsOf_61 N Q K5 x1 x2 x4 x3 ((1 : Int32) <<< (x4 &&& 31)) (C + N9) σ10) ∧ (¬ (r11 = (-1 : Int32)) → xxw_rowsOf_60 N Q K5 x1 x2 x4 x3 (C + N9) σ10))))))
def xxw_rowsOf_5 (N : Nat) (Q : Int32 → xx_S → Prop)  : Nat → Nat → Int32 → Int32 → Int32 → Nat → xx_S → Prop
  | 0, _, _, _, _, _, _ => False
  | n + 1, x1, x2, x3, x4, C, σ =>
    ((((4 : Int32) ≤ x4) → Q x3 σ) ∧ (¬ ((4 : Int32) ≤ x4) → (xxw_runsOf x4 σ (fun r2 σ1 => (∃ N3 : Nat, C + N3 ≤ N ∧ xxw_sortOf N3 x1 σ1 (fun r5 σ4 => (∃ N6 : Nat, (C + N3) + N6 ≤ N ∧ xxw_lengthOfN N6 x1 r5 σ4 (fun r8 σ7 => (((r2 < r8) → xxw_rowsOf_33 N Q (fun y0 y1 y2 y3 y4 τ => xxw_rowsOf_5 N Q n y0 y1 y2 y3 y4 τ) x1 x2 x3 x4 (0 : Int32) ((C + N3) + N6) σ7) ∧ (¬ (r2 < r8) → xxw_rowsOf_33 N Q (fun y0 y1 y2 y3 y4 τ => xxw_rowsOf_5 N Q n y0 y1 y2 y3 y4 τ) x1 x2 x3 x4 (1 : Int32) ((C + N3) + N6) σ7))))))))))
def xxw_rowsOf (N : Nat) (a1 : Nat) (a2 : Int32) (σ : xx_S) (Q : Int32 → xx_S → Prop) : Prop :=
    ∃ k9, xxw_rowsOf_5 N Q k9 a1 a2 (0 : Int32) (0 : Int32) 0 σ
abbrev xxr_rowsOf (N : Nat) : Room := { frames := 207, cells := N, slots := 64 * N, locals := 6128 }
set_option maxHeartbeats 4000000 in
set_option maxRecDepth 100000 in
theorem xxk_rowsOf_61 {p : Program} {l : Launch} {e : Env} {s : State} {m : MethodId} {args : Array Value} {below : List Frame} {meth : Method} {c : Code} {N : Nat} {D : va_G} {E : Nat → ClassId} {A : Nat → Prop} {ad sk : Nat → Nat} {Q : Int32 → xx_S → Prop} {K5 : Nat → Int32 → Int32 → Int32 → Nat → xx_S → Prop}  (C0 : gg_C p s m args meth c RX0 cX0_rowsOf 6 (some .int)) (hA : xx_A sk A s) (hK5 : ∀ (x1 : Nat) (x2 : Int32) (x3 : Int32) (x4 : Int32) (C : Nat) (σ : xx_S) (H : Heap) (locs : List Loc) (ls : Array Slot), K5 x1 x2 x3 x4 C σ → C ≤ N → xx_W D E A ad sk σ s H → va_S A s.heap H locs → lv_has ls 6 [(0, .ref (ad 0)), (1, .ref x1), (2, .int x2), (3, .int x3), (4, .int x4)] → W p l e (xxr_rowsOf N) s m args below meth c H locs C (64 * C) (MQ below (va_Qi Q (fun u t => xx_W D E A ad sk u t t.heap) A) args s N (64 * N) A) (F0 m 5 ls [])) :
    ∀ (x1 : Nat) (x2 : Int32) (x4 : Int32) (s0 : Int32) (s1 : Int32) (C : Nat) (σ : xx_S) (H : Heap) (locs : List Loc) (ls : Array Slot), xxw_rowsOf_61 N Q K5 x1 x2 x4 s0 s1 C σ → C ≤ N → xx_W D E A ad sk σ s H → va_S A s.heap H locs → lv_has ls 6 [(0, .ref (ad 0)), (1, .ref x1), (2, .int x2), (4, .int x4)] → W p l e (xxr_rowsOf N) s m args below meth c H locs C (64 * C) (MQ below (va_Qi Q (fun u t => xx_W D E A ad sk u t t.heap) A) args s N (64 * N) A) (F0 m 61 ls [.int s1, .int s0]) := by
  obtain ⟨hx, hb, hml, hown, hts, hr, hlocks⟩ := id C0
  intro x1 x2 x4 s0 s1 C σ H locs ls hw hC hW hS hl
  unfold xxw_rowsOf_61 at hw
  refine lv_ior hx hb dX0_rowsOf_61 ?_
  refine lv_istore_n (lv' := [(3, .int (s0 ||| s1)), (0, .ref (ad 0)), (1, .ref x1), (2, .int x2), (4, .int x4)]) hx hb dX0_rowsOf_62 rfl hl (by decide) rfl (fun ls hl => ?_)
  refine lv_iinc (v := (x4 + (1 : Int32))) (lv' := [(4, .int (x4 + (1 : Int32))), (3, .int (s0 ||| s1)), (0, .ref (ad 0)), (1, .ref x1), (2, .int x2)]) hx hb dX0_rowsOf_63 hl (k := 4) rfl rfl (by decide) rfl (fun ls hl => ?_)
  refine lv_goto (tgt := 5) hx hb dX0_rowsOf_66 (by decide) ?_
  exact hK5 x1 x2 (s0 ||| s1) (x4 + (1 : Int32)) C σ _ _ _ hw hC hW hS (lv_sub hl [2, 3, 4, 1, 0] rfl)
set_option maxHeartbeats 4000000 in
set_option maxRecDepth 100000 in
theorem xxk_rowsOf_60 {p : Program} {l : Launch} {e : Env} {s : State} {m : MethodId} {args : Array Value} {below : List Frame} {meth : Method} {c : Code} {N : Nat} {D : va_G} {E : Nat → ClassId} {A : Nat → Prop} {ad sk : Nat → Nat} {Q : Int32 → xx_S → Prop} {K5 : Nat → Int32 → Int32 → Int32 → Nat → xx_S → Prop}  (C0 : gg_C p s m args meth c RX0 cX0_rowsOf 6 (some .int)) (hA : xx_A sk A s) (hK5 : ∀ (x1 : Nat) (x2 : Int32) (x3 : Int32) (x4 : Int32) (C : Nat) (σ : xx_S) (H : Heap) (locs : List Loc) (ls : Array Slot), K5 x1 x2 x3 x4 C σ → C ≤ N → xx_W D E A ad sk σ s H → va_S A s.heap H locs → lv_has ls 6 [(0, .ref (ad 0)), (1, .ref x1), (2, .int x2), (3, .int x3), (4, .int x4)] → W p l e (xxr_rowsOf N) s m args below meth c H locs C (64 * C) (MQ below (va_Qi Q (fun u t => xx_W D E A ad sk u t t.heap) A) args s N (64 * N) A) (F0 m 5 ls [])) :
    ∀ (x1 : Nat) (x2 : Int32) (x4 : Int32) (s0 : Int32) (C : Nat) (σ : xx_S) (H : Heap) (locs : List Loc) (ls : Array Slot), xxw_rowsOf_60 N Q K5 x1 x2 x4 s0 C σ → C ≤ N → xx_W D E A ad sk σ s H → va_S A s.heap H locs → lv_has ls 6 [(0, .ref (ad 0)), (1, .ref x1), (2, .int x2), (4, .int x4)] → W p l e (xxr_rowsOf N) s m args below meth c H locs C (64 * C) (MQ below (va_Qi Q (fun u t => xx_W D E A ad sk u t t.heap) A) args s N (64 * N) A) (F0 m 60 ls [.int s0]) := by
  obtain ⟨hx, hb, hml, hown, hts, hr, hlocks⟩ := id C0
  intro x1 x2 x4 s0 C σ H locs ls hw hC hW hS hl
  unfold xxw_rowsOf_60 at hw
  refine lv_iconst (v := (0 : Int32)) hx hb dX0_rowsOf_60 (by decide) ?_
  exact xxk_rowsOf_61  C0 hA hK5 x1 x2 x4 s0 (0 : Int32) C σ _ _ _ hw hC hW hS (hl)
set_option maxHeartbeats 4000000 in
set_option maxRecDepth 100000 in
theorem xxk_rowsOf_33 {p : Program} {l : Launch} {e : Env} {s : State} {m : MethodId} {args : Array Value} {below : List Frame} {meth : Method} {c : Code} {N : Nat} {D : va_G} {E : Nat → ClassId} {A : Nat → Prop} {ad sk : Nat → Nat} {Q : Int32 → xx_S → Prop} {K5 : Nat → Int32 → Int32 → Int32 → Nat → xx_S → Prop}  (C0 : gg_C p s m args meth c RX0 cX0_rowsOf 6 (some .int)) (hA : xx_A sk A s) (hK5 : ∀ (x1 : Nat) (x2 : Int32) (x3 : Int32) (x4 : Int32) (C : Nat) (σ : xx_S) (H : Heap) (locs : List Loc) (ls : Array Slot), K5 x1 x2 x3 x4 C σ → C ≤ N → xx_W D E A ad sk σ s H → va_S A s.heap H locs → lv_has ls 6 [(0, .ref (ad 0)), (1, .ref x1), (2, .int x2), (3, .int x3), (4, .int x4)] → W p l e (xxr_rowsOf N) s m args below meth c H locs C (64 * C) (MQ below (va_Qi Q (fun u t => xx_W D E A ad sk u t t.heap) A) args s N (64 * N) A) (F0 m 5 ls [])) :
    ∀ (x1 : Nat) (x2 : Int32) (x3 : Int32) (x4 : Int32) (s0 : Int32) (C : Nat) (σ : xx_S) (H : Heap) (locs : List Loc) (ls : Array Slot), xxw_rowsOf_33 N Q K5 x1 x2 x3 x4 s0 C σ → C ≤ N → xx_W D E A ad sk σ s H → va_S A s.heap H locs → lv_has ls 6 [(0, .ref (ad 0)), (1, .ref x1), (2, .int x2), (3, .int x3), (4, .int x4)] → W p l e (xxr_rowsOf N) s m args below meth c H locs C (64 * C) (MQ below (va_Qi Q (fun u t => xx_W D E A ad sk u t t.heap) A) args s N (64 * N) A) (F0 m 33 ls [.int s0]) := by
  obtain ⟨hx, hb, hml, hown, hts, hr, hlocks⟩ := id C0
  intro x1 x2 x3 x4 s0 C σ H locs ls hw hC hW hS hl
  unfold xxw_rowsOf_33 at hw
  refine lv_istore (lv' := [(5, .int s0), (0, .ref (ad 0)), (1, .ref x1), (2, .int x2), (3, .int x3), (4, .int x4)]) hx hb dX0_rowsOf_33 hl (by decide) rfl (fun ls hl => ?_)
  refine lv_iload_n hx hb dX0_rowsOf_35 rfl (lv_at hl 4 rfl) ?_
  refine lv_iload hx hb dX0_rowsOf_36 (lv_at hl 0 rfl) ?_
  refine lv_if_eq (tgt := 60) hx hb dX0_rowsOf_38 (by decide) (fun c13 => ?_) (fun c13 => ?_)
  · have hw := hw.1 c13
    exact xxk_rowsOf_60  C0 hA hK5 x1 x2 x4 x3 C σ _ _ _ hw hC hW hS (lv_sub hl [1, 2, 3, 5] rfl)
  · have hw := hw.2 c13
    refine lv_aload_n hx hb dX0_rowsOf_41 rfl (lv_at hl 1 rfl) ?_
    refine lv_aload_n hx hb dX0_rowsOf_42 rfl (lv_at hl 2 rfl) ?_
    refine lv_iload_n hx hb dX0_rowsOf_43 rfl (lv_at hl 3 rfl) ?_
    refine lv_iload hx hb dX0_rowsOf_44 (lv_at hl 5 rfl) ?_
    obtain ⟨N9, hC1, hw⟩ := hw
    refine xx_aW (k := C) (n1 := N9) ⟨hx, hb, hml, hown, hts⟩ hA (xxt_otherwise l _ _ _ _ hw) (vx_cwVW (hh := [(5, 52, 77, 0), (60, 69, 77, 0), (77, 79, 77, 0)]) 3 hts (lw_VW q1043 q1045 qs48 q103 q1046) rfl rfl rfl cd_X0_otherwise ⟨Nat.le_of_ble_eq_true rfl, Nat.le_of_ble_eq_true rfl⟩) hW (xx_recv hW) hS rfl hl.1 rfl (Nat.le_of_ble_eq_true rfl) dX0_rowsOf_46 ⟨hC1, Nat.mul_le_mul_left 64 hC1⟩ (fun r11 σ10 H locs hw hW hS => ?_)
    have hC := hC1
    refine lv_iconst (v := (-1 : Int32)) hx hb dX0_rowsOf_49 (by decide) ?_
    refine lv_icmp_ne (tgt := 60) hx hb dX0_rowsOf_50 (by decide) (fun c12 => ?_) (fun c12 => ?_)
    · have hw := hw.2 c12
      exact xxk_rowsOf_60  C0 hA hK5 x1 x2 x4 x3 (C + N9) σ10 _ _ _ hw hC hW hS (lv_sub hl [1, 2, 3, 5] rfl)
    · have hw := hw.1 c12
      refine lv_iconst (v := (1 : Int32)) hx hb dX0_rowsOf_53 (by decide) ?_
      refine lv_iload hx hb dX0_rowsOf_54 (lv_at hl 5 rfl) ?_
      refine lv_ishl hx hb dX0_rowsOf_56 ?_
      refine lv_goto (tgt := 61) hx hb dX0_rowsOf_57 (by decide) ?_
      exact xxk_rowsOf_61  C0 hA hK5 x1 x2 x4 x3 ((1 : Int32) <<< (x4 &&& 31)) (C + N9) σ10 _ _ _ hw hC hW hS (lv_sub hl [1, 2, 3, 5] rfl)
set_option maxHeartbeats 4000000 in
set_option maxRecDepth 100000 in
theorem xxk_rowsOf_5 {p : Program} {l : Launch} {e : Env} {s : State} {m : MethodId} {args : Array Value} {below : List Frame} {meth : Method} {c : Code} {N : Nat} {D : va_G} {E : Nat → ClassId} {A : Nat → Prop} {ad sk : Nat → Nat} {Q : Int32 → xx_S → Prop}   (C0 : gg_C p s m args meth c RX0 cX0_rowsOf 6 (some .int)) (hA : xx_A sk A s) :
    ∀ n : Nat, ∀ (x1 : Nat) (x2 : Int32) (x3 : Int32) (x4 : Int32) (C : Nat) (σ : xx_S) (H : Heap) (locs : List Loc) (ls : Array Slot), xxw_rowsOf_5 N Q n x1 x2 x3 x4 C σ → C ≤ N → xx_W D E A ad sk σ s H → va_S A s.heap H locs → lv_has ls 6 [(0, .ref (ad 0)), (1, .ref x1), (2, .int x2), (3, .int x3), (4, .int x4)] → W p l e (xxr_rowsOf N) s m args below meth c H locs C (64 * C) (MQ below (va_Qi Q (fun u t => xx_W D E A ad sk u t t.heap) A) args s N (64 * N) A) (F0 m 5 ls []) := by
  obtain ⟨hx, hb, hml, hown, hts, hr, hlocks⟩ := id C0
  intro n
  induction n with
  | zero =>
    intro x1 x2 x3 x4 C σ H locs ls hw hC hW hS hl
    exact absurd hw (by unfold xxw_rowsOf_5; exact id)
  | succ n ih =>
    intro x1 x2 x3 x4 C σ H locs ls hw hC hW hS hl
    unfold xxw_rowsOf_5 at hw
    refine lv_iload hx hb dX0_rowsOf_5 (lv_at hl 4 rfl) ?_
    refine lv_iconst (v := (4 : Int32)) hx hb dX0_rowsOf_7 (by decide) ?_
    refine lv_icmp_ge (tgt := 69) hx hb dX0_rowsOf_8 (by decide) (fun c15 => ?_) (fun c15 => ?_)
    · have hw := hw.1 c15
      refine lv_iload_n hx hb dX0_rowsOf_69 rfl (lv_at hl 3 rfl) ?_
      exact W.widen hC (Nat.mul_le_mul_left 64 hC) (gg_iret (xx_mv D E A ad sk) C0 hW hS hw dX0_rowsOf_70)
    · have hw := hw.2 c15
      refine lv_aload_n hx hb dX0_rowsOf_11 rfl (lv_at hl 0 rfl) ?_
      refine lv_iload hx hb dX0_rowsOf_12 (lv_at hl 4 rfl) ?_
      refine xx_aV (k := C) (n1 := 0) ⟨hx, hb, hml, hown, hts⟩ hA (xxt_runsOf l _ _ hw) (cwV 1 hts (lw_V q258 q260 qs4 q103 q261) rfl rfl rfl cd_X0_runsOf ⟨Nat.le_of_ble_eq_true rfl, Nat.le_of_ble_eq_true rfl⟩) hW (xx_recv hW) hS rfl hl.1 rfl (Nat.le_of_ble_eq_true rfl) dX0_rowsOf_14 ⟨hC, Nat.mul_le_mul_left 64 hC⟩ (fun r2 σ1 H locs hw hW hS => ?_)
      refine lv_aload_n hx hb dX0_rowsOf_17 rfl (lv_at hl 1 rfl) ?_
      refine lv_aload_n hx hb dX0_rowsOf_18 rfl (lv_at hl 1 rfl) ?_
      obtain ⟨N3, hC1, hw⟩ := hw
      refine xx_aS (k := C) (n1 := N3) ⟨hx, hb, hml, hown, hts⟩ hA (xxt_sortOf l _ _ hw) (va_cwS 1 hts (lw_S q1034 q1035 q103 q1036) rfl rfl rfl cd_X0_sortOf.2 ⟨Nat.le_of_ble_eq_true rfl, Nat.le_of_ble_eq_true rfl⟩) hW hS rfl hl.1 rfl (Nat.le_of_ble_eq_true rfl) dX0_rowsOf_19 ⟨hC1, Nat.mul_le_mul_left 64 hC1⟩ (fun r5 σ4 H locs hw hW hS => ?_)
      have hC := hC1
      obtain ⟨N6, hC1, hw⟩ := hw
      refine xx_aS (k := (C + N3)) (n1 := N6) ⟨hx, hb, hml, hown, hts⟩ hA (xxt_lengthOfN l _ _ _ hw) (va_cwS 2 hts (lw_S q1039 q1040 q103 q1041) rfl rfl rfl cd_X0_lengthOf.2 ⟨Nat.le_of_ble_eq_true rfl, Nat.le_of_ble_eq_true rfl⟩) hW hS rfl hl.1 rfl (Nat.le_of_ble_eq_true rfl) dX0_rowsOf_22 ⟨hC1, Nat.mul_le_mul_left 64 hC1⟩ (fun r8 σ7 H locs hw hW hS => ?_)
      have hC := hC1
      refine lv_icmp_lt (tgt := 32) hx hb dX0_rowsOf_25 (by decide) (fun c14 => ?_) (fun c14 => ?_)
      · have hw := hw.1 c14
        refine lv_iconst (v := (0 : Int32)) hx hb dX0_rowsOf_32 (by decide) ?_
        exact xxk_rowsOf_33  C0 hA (fun y0 y1 y2 y3 y4 τ H9 l9 s9 => ih y0 y1 y2 y3 y4 τ H9 l9 s9) x1 x2 x3 x4 (0 : Int32) ((C + N3) + N6) σ7 _ _ _ hw hC hW hS (hl)
      · have hw := hw.2 c14
        refine lv_iconst (v := (1 : Int32)) hx hb dX0_rowsOf_28 (by decide) ?_
        refine lv_goto (tgt := 33) hx hb dX0_rowsOf_29 (by decide) ?_
        exact xxk_rowsOf_33  C0 hA (fun y0 y1 y2 y3 y4 τ H9 l9 s9 => ih y0 y1 y2 y3 y4 τ H9 l9 s9) x1 x2 x3 x4 (1 : Int32) ((C + N3) + N6) σ7 _ _ _ hw hC hW hS (hl)
set_option maxHeartbeats 4000000 in
set_option maxRecDepth 100000 in
theorem xxt_rowsOf (l : Launch) {N : Nat} {D : va_G} {E : Nat → ClassId} {A : Nat → Prop} {ad sk : Nat → Nat}  (a1 : Nat) (a2 : Int32) (σ : xx_S) {Q : Int32 → xx_S → Prop} (hw : xxw_rowsOf N a1 a2 σ Q) :
    Met l yX0_rowsOf (ws_ yX0_rowsOf cX0_rowsOf 6 (some .int)) (xxr_rowsOf N) (va_Pc [.ref (ad 0), .ref a1, .int a2] (fun U => xx_V D E A ad sk σ U U.heap)) (va_Qi Q (fun u t => xx_W D E A ad sk u t t.heap) A) N (64 * N) A := by
  refine gg_entry (W0 := fun s H => xx_V D E A ad sk σ s H) (by decide) (Nat.le_of_ble_eq_true rfl) ?_
  intro p e s m args below meth c C0 hV ls hl
  have C0 : gg_C p s m args meth c RX0 cX0_rowsOf 6 (some .int) := C0
  obtain ⟨hx, hb, hml, hown, hts, hr, hlocks⟩ := id C0
  have hl : lv_has ls 6 [(0, .ref (ad 0)), (1, .ref a1), (2, .int a2)] := hl
  have hS : va_S A s.heap s.heap [] := va_S.rf
  have hC : 0 ≤ N := Nat.zero_le _
  have hA : xx_A sk A s := hV.2
  have hW : xx_W D E A ad sk σ s s.heap := hV.1
  unfold xxw_rowsOf at hw
  refine lv_iconst (v := (0 : Int32)) hx hb dX0_rowsOf_0 (by decide) ?_
  refine lv_istore_n (lv' := [(3, .int (0 : Int32)), (0, .ref (ad 0)), (1, .ref a1), (2, .int a2)]) hx hb dX0_rowsOf_1 rfl hl (by decide) rfl (fun ls hl => ?_)
  refine lv_iconst (v := (0 : Int32)) hx hb dX0_rowsOf_2 (by decide) ?_
  refine lv_istore (lv' := [(4, .int (0 : Int32)), (3, .int (0 : Int32)), (0, .ref (ad 0)), (1, .ref a1), (2, .int a2)]) hx hb dX0_rowsOf_3 hl (by decide) rfl (fun ls hl => ?_)
  obtain ⟨n9, hw⟩ := hw
  exact xxk_rowsOf_5  C0 hA  n9 a1 a2 (0 : Int32) (0 : Int32) 0 σ _ _ _ hw hC hW hS (lv_sub hl [2, 3, 4, 1, 0] rfl)
theorem cd_X0_tells : yX0_tells.cls = RX0 ∧ yX0_tells.cls ≠ "java/lang/invoke/MethodHandle" ∧ yX0_tells.cls ≠ "java/lang/invoke/VarHandle" ∧ (parseMethodDescriptor yX0_tells.desc).map (fun d => d.parameters.length) = some 4 := by decide +kernel
/-! GleanersForGaps.tells(IIII)I -/
def xxw_tells_167 (N : Nat) (Q : Int32 → xx_S → Prop)  (s1 : Nat) (s2 : Int32) (s3 : Int32) (s4 : Int32) (C : Nat) (σ : xx_S) : Prop :=
    (∃ N32 : Nat, C + N32 ≤ N ∧ xxw_apronsOf N32 s1 s2 s3 s4 σ (fun r34 σ33 => Q r34 σ33))
def xxw_tells (N : Nat) (a1 : Int32) (a2 : Int32) (a3 : Int32) (a4 : Int32) (σ : xx_S) (Q : Int32 → xx_S → Prop) : Prop :=
    (xxw_isSheet a1 σ (fun r2 σ1 => (((r2 = 0) → Q (-2 : Int32) σ1) ∧ (¬ (r2 = 0) → (xxw_isOne a2 σ1 (fun r4 σ3 => (((r4 = 0) → Q (-2 : Int32) σ3) ∧ (¬ (r4 = 0) → (xxw_isRow a3 σ3 (fun r6 σ5 => (((r6 = 0) → Q (-2 : Int32) σ5) ∧ (¬ (r6 = 0) → (xxw_in ((a4).toInt64) (0 : Int64) (7 : Int64) σ5 (fun r8 σ7 => (((r8 = 0) → Q (-2 : Int32) σ7) ∧ (¬ (r8 = 0) → vp_in a1 4 ∧ (((xx_r σ7 (39 + a1.toNatClampNeg) 0) = none → Q (-11 : Int32) σ7) ∧ (∀ y10 : Nat, (xx_r σ7 (39 + a1.toNatClampNeg) 0) = some y10 → (∃ N12 : Nat, 0 + N12 ≤ N ∧ xxw_sortOf N12 y10 σ7 (fun r14 σ13 => (∃ N15 : Nat, (0 + N12) + N15 ≤ N ∧ xxw_lengthOfN N15 y10 r14 σ13 (fun r17 σ16 => (xxw_runsOf a3 σ16 (fun r19 σ18 => (((r17 ≤ r19) → ((a4 = (0 : Int32) → (∃ N20 : Nat, ((0 + N12) + N15) + N20 ≤ N ∧ xxw_otherwise N20 y10 a2 a3 σ18 (fun r22 σ21 => Q r22 σ21))) ∧ (a4 = (1 : Int32) → (∃ N24 : Nat, ((0 + N12) + N15) + N24 ≤ N ∧ xxw_kindsOf N24 y10 a2 a3 σ18 (fun r26 σ25 => Q r26 σ25))) ∧ (a4 = (2 : Int32) → (∃ N28 : Nat, ((0 + N12) + N15) + N28 ≤ N ∧ xxw_numbersOf N28 y10 a2 a3 σ18 (fun r30 σ29 => Q r30 σ29))) ∧ (a4 = (3 : Int32) → (((a4 = (4 : Int32)) → xxw_tells_167 N Q y10 a2 a3 (1 : Int32) ((0 + N12) + N15) σ18) ∧ (¬ (a4 = (4 : Int32)) → xxw_tells_167 N Q y10 a2 a3 (0 : Int32) ((0 + N12) + N15) σ18))) ∧ (a4 = (4 : Int32) → (((a4 = (4 : Int32)) → xxw_tells_167 N Q y10 a2 a3 (1 : Int32) ((0 + N12) + N15) σ18) ∧ (¬ (a4 = (4 : Int32)) → xxw_tells_167 N Q y10 a2 a3 (0 : Int32) ((0 + N12) + N15) σ18))) ∧ (a4 = (5 : Int32) → (∃ N39 : Nat, ((0 + N12) + N15) + N39 ≤ N ∧ xxw_textsOf N39 y10 a2 a3 σ18 (fun r41 σ40 => Q r41 σ40))) ∧ (a4 = (6 : Int32) → (∃ N43 : Nat, ((0 + N12) + N15) + N43 ≤ N ∧ xxw_whoseOf N43 y10 a3 σ18 (fun r45 σ44 => Q r45 σ44))) ∧ (¬ a4 = (0 : Int32) ∧ ¬ a4 = (1 : Int32) ∧ ¬ a4 = (2 : Int32) ∧ ¬ a4 = (3 : Int32) ∧ ¬ a4 = (4 : Int32) ∧ ¬ a4 = (5 : Int32) ∧ ¬ a4 = (6 : Int32) → (∃ N47 : Nat, ((0 + N12) + N15) + N47 ≤ N ∧ xxw_rowsOf N47 y10 a2 σ18 (fun r49 σ48 => Q r49 σ48))))) ∧ (¬ (r17 ≤ r19) → Q (-2 : Int32) σ18))))))))))))))))))))))))))
abbrev xxr_tells (N : Nat) : Room := { frames := 209, cells := N, slots := 64 * N, locals := 6182 }
set_option maxHeartbeats 4000000 in
set_option maxRecDepth 100000 in
theorem xxk_tells_167 {p : Program} {l : Launch} {e : Env} {s : State} {m : MethodId} {args : Array Value} {below : List Frame} {meth : Method} {c : Code} {N : Nat} {D : va_G} {E : Nat → ClassId} {A : Nat → Prop} {ad sk : Nat → Nat} {Q : Int32 → xx_S → Prop}   (C0 : gg_C p s m args meth c RX0 cX0_tells 6 (some .int)) (hA : xx_A sk A s) :
    ∀ (s1 : Nat) (s2 : Int32) (s3 : Int32) (s4 : Int32) (C : Nat) (σ : xx_S) (H : Heap) (locs : List Loc) (ls : Array Slot), xxw_tells_167 N Q s1 s2 s3 s4 C σ → C ≤ N → xx_W D E A ad sk σ s H → va_S A s.heap H locs → lv_has ls 6 [(0, .ref (ad 0))] → W p l e (xxr_tells N) s m args below meth c H locs C (64 * C) (MQ below (va_Qi Q (fun u t => xx_W D E A ad sk u t t.heap) A) args s N (64 * N) A) (F0 m 167 ls [.int s4, .int s3, .int s2, .ref s1, .ref (ad 0)]) := by
  obtain ⟨hx, hb, hml, hown, hts, hr, hlocks⟩ := id C0
  intro s1 s2 s3 s4 C σ H locs ls hw hC hW hS hl
  unfold xxw_tells_167 at hw
  obtain ⟨N32, hC1, hw⟩ := hw
  refine xx_aV (k := C) (n1 := N32) ⟨hx, hb, hml, hown, hts⟩ hA (xxt_apronsOf l _ _ _ _ _ hw) (cwV 4 hts (lw_V q1100 q1102 qs53 q103 q1103) rfl rfl rfl cd_X0_apronsOf ⟨Nat.le_of_ble_eq_true rfl, Nat.le_of_ble_eq_true rfl⟩) hW (xx_recv hW) hS rfl hl.1 rfl (Nat.le_of_ble_eq_true rfl) dX0_tells_167 ⟨hC1, Nat.mul_le_mul_left 64 hC1⟩ (fun r34 σ33 H locs hw hW hS => ?_)
  have hC := hC1
  exact W.widen hC (Nat.mul_le_mul_left 64 hC) (gg_iret (xx_mv D E A ad sk) C0 hW hS hw dX0_tells_170)
set_option maxHeartbeats 4000000 in
set_option maxRecDepth 100000 in
theorem xxt_tells (l : Launch) {N : Nat} {D : va_G} {E : Nat → ClassId} {A : Nat → Prop} {ad sk : Nat → Nat}  (a1 : Int32) (a2 : Int32) (a3 : Int32) (a4 : Int32) (σ : xx_S) {Q : Int32 → xx_S → Prop} (hw : xxw_tells N a1 a2 a3 a4 σ Q) :
    Met l yX0_tells (ws_ yX0_tells cX0_tells 6 (some .int)) (xxr_tells N) (va_Pc [.ref (ad 0), .int a1, .int a2, .int a3, .int a4] (fun U => xx_V D E A ad sk σ U U.heap)) (va_Qi Q (fun u t => xx_W D E A ad sk u t t.heap) A) N (64 * N) A := by
  refine gg_entry (W0 := fun s H => xx_V D E A ad sk σ s H) (by decide) (Nat.le_of_ble_eq_true rfl) ?_
  intro p e s m args below meth c C0 hV ls hl
  have C0 : gg_C p s m args meth c RX0 cX0_tells 6 (some .int) := C0
  obtain ⟨hx, hb, hml, hown, hts, hr, hlocks⟩ := id C0
  have hl : lv_has ls 6 [(0, .ref (ad 0)), (1, .int a1), (2, .int a2), (3, .int a3), (4, .int a4)] := hl
  have hS : va_S A s.heap s.heap [] := va_S.rf
  have hC : 0 ≤ N := Nat.zero_le _
  have hA : xx_A sk A s := hV.2
  have hW : xx_W D E A ad sk σ s s.heap := hV.1
  unfold xxw_tells at hw
  refine lv_iload_n hx hb dX0_tells_0 rfl (lv_at hl 1 rfl) ?_
  refine xx_aS (k := 0) (n1 := 0) ⟨hx, hb, hml, hown, hts⟩ hA (xxt_isSheet l _ _ hw) (va_cwS 1 hts (lw_S q1030 q1031 q103 q1032) rfl rfl rfl cd_X0_isSheet.2 ⟨Nat.le_of_ble_eq_true rfl, Nat.le_of_ble_eq_true rfl⟩) hW hS rfl hl.1 rfl (Nat.le_of_ble_eq_true rfl) dX0_tells_1 ⟨hC, Nat.mul_le_mul_left 64 hC⟩ (fun r2 σ1 H locs hw hW hS => ?_)
  obtain ⟨hz_r2, hw⟩ := hw
  refine lv_if_eq (tgt := 35) hx hb dX0_tells_4 (by decide) (fun c54 => ?_) (fun c54 => ?_)
  · have hw := hw.1 c54
    refine lv_bipush (v := (-2 : Int32)) hx hb dX0_tells_35 (by decide) ?_
    exact W.widen hC (Nat.mul_le_mul_left 64 hC) (gg_iret (xx_mv D E A ad sk) C0 hW hS hw dX0_tells_37)
  · have hw := hw.2 c54
    refine lv_aload_n hx hb dX0_tells_7 rfl (lv_at hl 0 rfl) ?_
    refine lv_iload_n hx hb dX0_tells_8 rfl (lv_at hl 2 rfl) ?_
    refine xx_aV (k := 0) (n1 := 0) ⟨hx, hb, hml, hown, hts⟩ hA (xxt_isOne l _ _ hw) (cwV 1 hts (lw_V q245 q247 qs2 q103 q248) rfl rfl rfl cd_X0_isOne ⟨Nat.le_of_ble_eq_true rfl, Nat.le_of_ble_eq_true rfl⟩) hW (xx_recv hW) hS rfl hl.1 rfl (Nat.le_of_ble_eq_true rfl) dX0_tells_9 ⟨hC, Nat.mul_le_mul_left 64 hC⟩ (fun r4 σ3 H locs hw hW hS => ?_)
    obtain ⟨hz_r4, hw⟩ := hw
    refine lv_if_eq (tgt := 35) hx hb dX0_tells_12 (by decide) (fun c53 => ?_) (fun c53 => ?_)
    · have hw := hw.1 c53
      refine lv_bipush (v := (-2 : Int32)) hx hb dX0_tells_35 (by decide) ?_
      exact W.widen hC (Nat.mul_le_mul_left 64 hC) (gg_iret (xx_mv D E A ad sk) C0 hW hS hw dX0_tells_37)
    · have hw := hw.2 c53
      refine lv_iload_n hx hb dX0_tells_15 rfl (lv_at hl 3 rfl) ?_
      refine xx_aS (k := 0) (n1 := 0) ⟨hx, hb, hml, hown, hts⟩ hA (xxt_isRow l _ _ hw) (va_cwS 1 hts (lw_S q220 q221 q103 q222) rfl rfl rfl cd_X0_isRow.2 ⟨Nat.le_of_ble_eq_true rfl, Nat.le_of_ble_eq_true rfl⟩) hW hS rfl hl.1 rfl (Nat.le_of_ble_eq_true rfl) dX0_tells_16 ⟨hC, Nat.mul_le_mul_left 64 hC⟩ (fun r6 σ5 H locs hw hW hS => ?_)
      obtain ⟨hz_r6, hw⟩ := hw
      refine lv_if_eq (tgt := 35) hx hb dX0_tells_19 (by decide) (fun c52 => ?_) (fun c52 => ?_)
      · have hw := hw.1 c52
        refine lv_bipush (v := (-2 : Int32)) hx hb dX0_tells_35 (by decide) ?_
        exact W.widen hC (Nat.mul_le_mul_left 64 hC) (gg_iret (xx_mv D E A ad sk) C0 hW hS hw dX0_tells_37)
      · have hw := hw.2 c52
        refine lv_iload hx hb dX0_tells_22 (lv_at hl 4 rfl) ?_
        refine lv_i2l (v := (a4).toInt64) hx hb dX0_tells_24 rfl ?_
        refine lv_lconst (v := (0 : Int64)) hx hb dX0_tells_25 (by decide) ?_
        refine lv_ldc2 (own := RX0) (v := (7 : Int64)) hx hb hown (hts _ q1033) dX0_tells_26 ?_
        refine xx_aS (k := 0) (n1 := 0) ⟨hx, hb, hml, hown, hts⟩ hA (xxt_in l _ _ _ _ hw) (va_cwS 3 hts (lw_S q139 q140 q103 q141) rfl rfl rfl cd_X0_in.2 ⟨Nat.le_of_ble_eq_true rfl, Nat.le_of_ble_eq_true rfl⟩) hW hS rfl hl.1 rfl (Nat.le_of_ble_eq_true rfl) dX0_tells_29 ⟨hC, Nat.mul_le_mul_left 64 hC⟩ (fun r8 σ7 H locs hw hW hS => ?_)
        obtain ⟨hz_r8, hw⟩ := hw
        refine lv_if_ne (tgt := 38) hx hb dX0_tells_32 (by decide) (fun c51 => ?_) (fun c51 => ?_)
        · have hw := hw.2 c51
          refine lv_aload_n hx hb dX0_tells_38 rfl (lv_at hl 0 rfl) ?_
          refine xx_getr hx hb hts hown hW 39 38 (by decide) q789 dX0_tells_39 ?_
          refine lv_iload_n hx hb dX0_tells_42 rfl (lv_at hl 1 rfl) ?_
          obtain ⟨hin9, hw⟩ := hw
          refine xx_aldS hx hb hW hin9 dX0_tells_43 ?_
          refine xx_getS hx hb hts hown hA.1 hW hin9 dX0_tells_44 (fun e11 => ?_) (fun y10 e11 => ?_)
          · have hw := hw.1 e11
            refine lv_astoreN (lv' := [(5, .null), (0, .ref (ad 0)), (1, .int a1), (2, .int a2), (3, .int a3), (4, .int a4)]) hx hb dX0_tells_47 hl (by decide) rfl (fun ls hl => ?_)
            refine lv_aloadN hx hb dX0_tells_49 (lv_at hl 0 rfl) ?_
            refine lv_ifnonnullN hx hb dX0_tells_51 ?_
            refine lv_bipush (v := (-11 : Int32)) hx hb dX0_tells_54 (by decide) ?_
            exact W.widen hC (Nat.mul_le_mul_left 64 hC) (gg_iret (xx_mv D E A ad sk) C0 hW hS hw dX0_tells_56)
          · have hw := hw.2 y10 e11
            refine lv_astore (lv' := [(5, .ref y10), (0, .ref (ad 0)), (1, .int a1), (2, .int a2), (3, .int a3), (4, .int a4)]) hx hb dX0_tells_47 hl (by decide) rfl (fun ls hl => ?_)
            refine lv_aload hx hb dX0_tells_49 (lv_at hl 0 rfl) ?_
            refine lv_ifnonnull (tgt := 57) hx hb dX0_tells_51 (by decide) ?_
            refine lv_aload hx hb dX0_tells_57 (lv_at hl 0 rfl) ?_
            refine lv_aload hx hb dX0_tells_59 (lv_at hl 0 rfl) ?_
            obtain ⟨N12, hC1, hw⟩ := hw
            refine xx_aS (k := 0) (n1 := N12) ⟨hx, hb, hml, hown, hts⟩ hA (xxt_sortOf l _ _ hw) (va_cwS 1 hts (lw_S q1034 q1035 q103 q1036) rfl rfl rfl cd_X0_sortOf.2 ⟨Nat.le_of_ble_eq_true rfl, Nat.le_of_ble_eq_true rfl⟩) hW hS rfl hl.1 rfl (Nat.le_of_ble_eq_true rfl) dX0_tells_61 ⟨hC1, Nat.mul_le_mul_left 64 hC1⟩ (fun r14 σ13 H locs hw hW hS => ?_)
            have hC := hC1
            obtain ⟨N15, hC1, hw⟩ := hw
            refine xx_aS (k := (0 + N12)) (n1 := N15) ⟨hx, hb, hml, hown, hts⟩ hA (xxt_lengthOfN l _ _ _ hw) (va_cwS 2 hts (lw_S q1039 q1040 q103 q1041) rfl rfl rfl cd_X0_lengthOf.2 ⟨Nat.le_of_ble_eq_true rfl, Nat.le_of_ble_eq_true rfl⟩) hW hS rfl hl.1 rfl (Nat.le_of_ble_eq_true rfl) dX0_tells_64 ⟨hC1, Nat.mul_le_mul_left 64 hC1⟩ (fun r17 σ16 H locs hw hW hS => ?_)
            have hC := hC1
            refine lv_aload_n hx hb dX0_tells_67 rfl (lv_at hl 1 rfl) ?_
            refine lv_iload_n hx hb dX0_tells_68 rfl (lv_at hl 4 rfl) ?_
            refine xx_aV (k := ((0 + N12) + N15)) (n1 := 0) ⟨hx, hb, hml, hown, hts⟩ hA (xxt_runsOf l _ _ hw) (cwV 1 hts (lw_V q258 q260 qs4 q103 q261) rfl rfl rfl cd_X0_runsOf ⟨Nat.le_of_ble_eq_true rfl, Nat.le_of_ble_eq_true rfl⟩) hW (xx_recv hW) hS rfl hl.1 rfl (Nat.le_of_ble_eq_true rfl) dX0_tells_69 ⟨hC, Nat.mul_le_mul_left 64 hC⟩ (fun r19 σ18 H locs hw hW hS => ?_)
            refine lv_icmp_le (tgt := 78) hx hb dX0_tells_72 (by decide) (fun c50 => ?_) (fun c50 => ?_)
            · have hw := hw.1 c50
              refine lv_iload hx hb dX0_tells_78 (lv_at hl 5 rfl) ?_
              by_cases e23 : a4 = (0 : Int32)
              · obtain ⟨hw, -⟩ := hw
                have hw := hw e23
                refine lv_tableIn (off := 44) (tgt := 124) hx hb dX0_tells_80 (by rw [e23]; decide) (by rw [e23]; decide) (by rw [e23]; rfl) (by decide) ?_
                refine lv_aload_n hx hb dX0_tells_124 rfl (lv_at hl 1 rfl) ?_
                refine lv_aload hx hb dX0_tells_125 (lv_at hl 0 rfl) ?_
                refine lv_iload_n hx hb dX0_tells_127 rfl (lv_at hl 3 rfl) ?_
                refine lv_iload_n hx hb dX0_tells_128 rfl (lv_at hl 4 rfl) ?_
                obtain ⟨N20, hC1, hw⟩ := hw
                refine xx_aW (k := ((0 + N12) + N15)) (n1 := N20) ⟨hx, hb, hml, hown, hts⟩ hA (xxt_otherwise l _ _ _ _ hw) (vx_cwVW (hh := [(5, 52, 77, 0), (60, 69, 77, 0), (77, 79, 77, 0)]) 3 hts (lw_VW q1043 q1045 qs48 q103 q1046) rfl rfl rfl cd_X0_otherwise ⟨Nat.le_of_ble_eq_true rfl, Nat.le_of_ble_eq_true rfl⟩) hW (xx_recv hW) hS rfl hl.1 rfl (Nat.le_of_ble_eq_true rfl) dX0_tells_129 ⟨hC1, Nat.mul_le_mul_left 64 hC1⟩ (fun r22 σ21 H locs hw hW hS => ?_)
                have hC := hC1
                exact W.widen hC (Nat.mul_le_mul_left 64 hC) (gg_iret (xx_mv D E A ad sk) C0 hW hS hw dX0_tells_132)
              obtain ⟨-, hw⟩ := hw
              by_cases e27 : a4 = (1 : Int32)
              · obtain ⟨hw, -⟩ := hw
                have hw := hw e27
                refine lv_tableIn (off := 53) (tgt := 133) hx hb dX0_tells_80 (by rw [e27]; decide) (by rw [e27]; decide) (by rw [e27]; rfl) (by decide) ?_
                refine lv_aload_n hx hb dX0_tells_133 rfl (lv_at hl 1 rfl) ?_
                refine lv_aload hx hb dX0_tells_134 (lv_at hl 0 rfl) ?_
                refine lv_iload_n hx hb dX0_tells_136 rfl (lv_at hl 3 rfl) ?_
                refine lv_iload_n hx hb dX0_tells_137 rfl (lv_at hl 4 rfl) ?_
                obtain ⟨N24, hC1, hw⟩ := hw
                refine xx_aV (k := ((0 + N12) + N15)) (n1 := N24) ⟨hx, hb, hml, hown, hts⟩ hA (xxt_kindsOf l _ _ _ _ hw) (cwV 3 hts (lw_V q1074 q1076 qs49 q103 q1077) rfl rfl rfl cd_X0_kindsOf ⟨Nat.le_of_ble_eq_true rfl, Nat.le_of_ble_eq_true rfl⟩) hW (xx_recv hW) hS rfl hl.1 rfl (Nat.le_of_ble_eq_true rfl) dX0_tells_138 ⟨hC1, Nat.mul_le_mul_left 64 hC1⟩ (fun r26 σ25 H locs hw hW hS => ?_)
                have hC := hC1
                exact W.widen hC (Nat.mul_le_mul_left 64 hC) (gg_iret (xx_mv D E A ad sk) C0 hW hS hw dX0_tells_141)
              obtain ⟨-, hw⟩ := hw
              by_cases e31 : a4 = (2 : Int32)
              · obtain ⟨hw, -⟩ := hw
                have hw := hw e31
                refine lv_tableIn (off := 62) (tgt := 142) hx hb dX0_tells_80 (by rw [e31]; decide) (by rw [e31]; decide) (by rw [e31]; rfl) (by decide) ?_
                refine lv_aload_n hx hb dX0_tells_142 rfl (lv_at hl 1 rfl) ?_
                refine lv_aload hx hb dX0_tells_143 (lv_at hl 0 rfl) ?_
                refine lv_iload_n hx hb dX0_tells_145 rfl (lv_at hl 3 rfl) ?_
                refine lv_iload_n hx hb dX0_tells_146 rfl (lv_at hl 4 rfl) ?_
                obtain ⟨N28, hC1, hw⟩ := hw
                refine xx_aV (k := ((0 + N12) + N15)) (n1 := N28) ⟨hx, hb, hml, hown, hts⟩ hA (xxt_numbersOf l _ _ _ _ hw) (cwV 3 hts (lw_V q1092 q1094 qs51 q103 q1095) rfl rfl rfl cd_X0_numbersOf ⟨Nat.le_of_ble_eq_true rfl, Nat.le_of_ble_eq_true rfl⟩) hW (xx_recv hW) hS rfl hl.1 rfl (Nat.le_of_ble_eq_true rfl) dX0_tells_147 ⟨hC1, Nat.mul_le_mul_left 64 hC1⟩ (fun r30 σ29 H locs hw hW hS => ?_)
                have hC := hC1
                exact W.widen hC (Nat.mul_le_mul_left 64 hC) (gg_iret (xx_mv D E A ad sk) C0 hW hS hw dX0_tells_150)
              obtain ⟨-, hw⟩ := hw
              by_cases e36 : a4 = (3 : Int32)
              · obtain ⟨hw, -⟩ := hw
                have hw := hw e36
                refine lv_tableIn (off := 71) (tgt := 151) hx hb dX0_tells_80 (by rw [e36]; decide) (by rw [e36]; decide) (by rw [e36]; rfl) (by decide) ?_
                refine lv_aload_n hx hb dX0_tells_151 rfl (lv_at hl 1 rfl) ?_
                refine lv_aload hx hb dX0_tells_152 (lv_at hl 0 rfl) ?_
                refine lv_iload_n hx hb dX0_tells_154 rfl (lv_at hl 3 rfl) ?_
                refine lv_iload_n hx hb dX0_tells_155 rfl (lv_at hl 4 rfl) ?_
                refine lv_iload hx hb dX0_tells_156 (lv_at hl 5 rfl) ?_
                refine lv_iconst (v := (4 : Int32)) hx hb dX0_tells_158 (by decide) ?_
                refine lv_icmp_ne (tgt := 166) hx hb dX0_tells_159 (by decide) (fun c35 => ?_) (fun c35 => ?_)
                · have hw := hw.2 c35
                  refine lv_iconst (v := (0 : Int32)) hx hb dX0_tells_166 (by decide) ?_
                  exact xxk_tells_167  C0 hA  y10 a2 a3 (0 : Int32) ((0 + N12) + N15) σ18 _ _ _ hw hC hW hS (lv_sub hl [1] rfl)
                · have hw := hw.1 c35
                  refine lv_iconst (v := (1 : Int32)) hx hb dX0_tells_162 (by decide) ?_
                  refine lv_goto (tgt := 167) hx hb dX0_tells_163 (by decide) ?_
                  exact xxk_tells_167  C0 hA  y10 a2 a3 (1 : Int32) ((0 + N12) + N15) σ18 _ _ _ hw hC hW hS (lv_sub hl [1] rfl)
              obtain ⟨-, hw⟩ := hw
              by_cases e38 : a4 = (4 : Int32)
              · obtain ⟨hw, -⟩ := hw
                have hw := hw e38
                refine lv_tableIn (off := 71) (tgt := 151) hx hb dX0_tells_80 (by rw [e38]; decide) (by rw [e38]; decide) (by rw [e38]; rfl) (by decide) ?_
                refine lv_aload_n hx hb dX0_tells_151 rfl (lv_at hl 1 rfl) ?_
                refine lv_aload hx hb dX0_tells_152 (lv_at hl 0 rfl) ?_
                refine lv_iload_n hx hb dX0_tells_154 rfl (lv_at hl 3 rfl) ?_
                refine lv_iload_n hx hb dX0_tells_155 rfl (lv_at hl 4 rfl) ?_
                refine lv_iload hx hb dX0_tells_156 (lv_at hl 5 rfl) ?_
                refine lv_iconst (v := (4 : Int32)) hx hb dX0_tells_158 (by decide) ?_
                refine lv_icmp_ne (tgt := 166) hx hb dX0_tells_159 (by decide) (fun c37 => ?_) (fun c37 => ?_)
                · have hw := hw.2 c37
                  refine lv_iconst (v := (0 : Int32)) hx hb dX0_tells_166 (by decide) ?_
                  exact xxk_tells_167  C0 hA  y10 a2 a3 (0 : Int32) ((0 + N12) + N15) σ18 _ _ _ hw hC hW hS (lv_sub hl [1] rfl)
                · have hw := hw.1 c37
                  refine lv_iconst (v := (1 : Int32)) hx hb dX0_tells_162 (by decide) ?_
                  refine lv_goto (tgt := 167) hx hb dX0_tells_163 (by decide) ?_
                  exact xxk_tells_167  C0 hA  y10 a2 a3 (1 : Int32) ((0 + N12) + N15) σ18 _ _ _ hw hC hW hS (lv_sub hl [1] rfl)
              obtain ⟨-, hw⟩ := hw
              by_cases e42 : a4 = (5 : Int32)
              · obtain ⟨hw, -⟩ := hw
                have hw := hw e42
                refine lv_tableIn (off := 91) (tgt := 171) hx hb dX0_tells_80 (by rw [e42]; decide) (by rw [e42]; decide) (by rw [e42]; rfl) (by decide) ?_
                refine lv_aload_n hx hb dX0_tells_171 rfl (lv_at hl 1 rfl) ?_
                refine lv_aload hx hb dX0_tells_172 (lv_at hl 0 rfl) ?_
                refine lv_iload_n hx hb dX0_tells_174 rfl (lv_at hl 3 rfl) ?_
                refine lv_iload_n hx hb dX0_tells_175 rfl (lv_at hl 4 rfl) ?_
                obtain ⟨N39, hC1, hw⟩ := hw
                refine xx_aW (k := ((0 + N12) + N15)) (n1 := N39) ⟨hx, hb, hml, hown, hts⟩ hA (xxt_textsOf l _ _ _ _ hw) (vx_cwVW (hh := [(9, 57, 66, 0), (66, 68, 66, 0)]) 3 hts (lw_VW q1104 q1106 qs54 q103 q1107) rfl rfl rfl cd_X0_textsOf ⟨Nat.le_of_ble_eq_true rfl, Nat.le_of_ble_eq_true rfl⟩) hW (xx_recv hW) hS rfl hl.1 rfl (Nat.le_of_ble_eq_true rfl) dX0_tells_176 ⟨hC1, Nat.mul_le_mul_left 64 hC1⟩ (fun r41 σ40 H locs hw hW hS => ?_)
                have hC := hC1
                exact W.widen hC (Nat.mul_le_mul_left 64 hC) (gg_iret (xx_mv D E A ad sk) C0 hW hS hw dX0_tells_179)
              obtain ⟨-, hw⟩ := hw
              by_cases e46 : a4 = (6 : Int32)
              · obtain ⟨hw, -⟩ := hw
                have hw := hw e46
                refine lv_tableIn (off := 100) (tgt := 180) hx hb dX0_tells_80 (by rw [e46]; decide) (by rw [e46]; decide) (by rw [e46]; rfl) (by decide) ?_
                refine lv_aload_n hx hb dX0_tells_180 rfl (lv_at hl 1 rfl) ?_
                refine lv_aload hx hb dX0_tells_181 (lv_at hl 0 rfl) ?_
                refine lv_iload_n hx hb dX0_tells_183 rfl (lv_at hl 4 rfl) ?_
                obtain ⟨N43, hC1, hw⟩ := hw
                refine xx_aV (k := ((0 + N12) + N15)) (n1 := N43) ⟨hx, hb, hml, hown, hts⟩ hA (xxt_whoseOf l _ _ _ hw) (cwV 2 hts (lw_V q1108 q1110 qs55 q103 q1111) rfl rfl rfl cd_X0_whoseOf ⟨Nat.le_of_ble_eq_true rfl, Nat.le_of_ble_eq_true rfl⟩) hW (xx_recv hW) hS rfl hl.1 rfl (Nat.le_of_ble_eq_true rfl) dX0_tells_184 ⟨hC1, Nat.mul_le_mul_left 64 hC1⟩ (fun r45 σ44 H locs hw hW hS => ?_)
                have hC := hC1
                exact W.widen hC (Nat.mul_le_mul_left 64 hC) (gg_iret (xx_mv D E A ad sk) C0 hW hS hw dX0_tells_187)
              obtain ⟨-, hw⟩ := hw
              have hw := hw ⟨e23, e27, e31, e36, e38, e42, e46⟩
              refine lv_tableOut (tgt := 188) hx hb dX0_tells_80 (gg_swout (lo := 0) (hi := 6) (by decide) (by decide) (fun v h1 h2 => ?_)) (by decide) ?_
              · have hv : v = 0 ∨ v = 1 ∨ v = 2 ∨ v = 3 ∨ v = 4 ∨ v = 5 ∨ v = 6 := by omega
                rcases hv with h | h | h | h | h | h | h <;> subst h
                · exact e23
                · exact e27
                · exact e31
                · exact e36
                · exact e38
                · exact e42
                · exact e46
              refine lv_aload_n hx hb dX0_tells_188 rfl (lv_at hl 1 rfl) ?_
              refine lv_aload hx hb dX0_tells_189 (lv_at hl 0 rfl) ?_
              refine lv_iload_n hx hb dX0_tells_191 rfl (lv_at hl 3 rfl) ?_
              obtain ⟨N47, hC1, hw⟩ := hw
              refine xx_aV (k := ((0 + N12) + N15)) (n1 := N47) ⟨hx, hb, hml, hown, hts⟩ hA (xxt_rowsOf l _ _ _ hw) (cwV 2 hts (lw_V q1112 q1114 qs56 q103 q1115) rfl rfl rfl cd_X0_rowsOf ⟨Nat.le_of_ble_eq_true rfl, Nat.le_of_ble_eq_true rfl⟩) hW (xx_recv hW) hS rfl hl.1 rfl (Nat.le_of_ble_eq_true rfl) dX0_tells_192 ⟨hC1, Nat.mul_le_mul_left 64 hC1⟩ (fun r49 σ48 H locs hw hW hS => ?_)
              have hC := hC1
              exact W.widen hC (Nat.mul_le_mul_left 64 hC) (gg_iret (xx_mv D E A ad sk) C0 hW hS hw dX0_tells_195)
            · have hw := hw.2 c50
              refine lv_bipush (v := (-2 : Int32)) hx hb dX0_tells_75 (by decide) ?_
              exact W.widen hC (Nat.mul_le_mul_left 64 hC) (gg_iret (xx_mv D E A ad sk) C0 hW hS hw dX0_tells_77)
        · have hw := hw.1 c51
          refine lv_bipush (v := (-2 : Int32)) hx hb dX0_tells_35 (by decide) ?_
          exact W.widen hC (Nat.mul_le_mul_left 64 hC) (gg_iret (xx_mv D E A ad sk) C0 hW hS hw dX0_tells_37)
theorem cd_X0_copy : yX0_copy.cls = RX0 ∧ yX0_copy.cls ≠ "java/lang/invoke/MethodHandle" ∧ yX0_copy.cls ≠ "java/lang/invoke/VarHandle" ∧ (parseMethodDescriptor yX0_copy.desc).map (fun d => d.parameters.length) = some 5 := by decide +kernel
/-! GleanersForGaps.copy(IIIII)I -/
def xxw_copy (N : Nat) (a1 : Int32) (a2 : Int32) (a3 : Int32) (a4 : Int32) (a5 : Int32) (σ : xx_S) (Q : Int32 → xx_S → Prop) : Prop :=
    (xxw_isSheet a1 σ (fun r2 σ1 => (((r2 = 0) → Q (-2 : Int32) σ1) ∧ (¬ (r2 = 0) → (xxw_isSheet a3 σ1 (fun r4 σ3 => (((r4 = 0) → Q (-2 : Int32) σ3) ∧ (¬ (r4 = 0) → vp_in a1 4 ∧ (((xx_r σ3 (39 + a1.toNatClampNeg) 0) = none → vp_in a3 4 ∧ (((xx_r σ3 (39 + a3.toNatClampNeg) 0) = none → Q (-11 : Int32) σ3) ∧ (∀ y9 : Nat, (xx_r σ3 (39 + a3.toNatClampNeg) 0) = some y9 → Q (-11 : Int32) σ3))) ∧ (∀ y6 : Nat, (xx_r σ3 (39 + a1.toNatClampNeg) 0) = some y6 → vp_in a3 4 ∧ (((xx_r σ3 (39 + a3.toNatClampNeg) 0) = none → Q (-11 : Int32) σ3) ∧ (∀ y12 : Nat, (xx_r σ3 (39 + a3.toNatClampNeg) 0) = some y12 → (∃ N14 : Nat, 0 + N14 ≤ N ∧ xxw_sortOf N14 y6 σ3 (fun r16 σ15 => (∃ N17 : Nat, (0 + N14) + N17 ≤ N ∧ xxw_sortOf N17 y12 σ15 (fun r19 σ18 => (((r16 = r19) → (∃ N20 : Nat, ((0 + N14) + N17) + N20 ≤ N ∧ xxw_sortOf N20 y6 σ18 (fun r22 σ21 => (∃ N23 : Nat, (((0 + N14) + N17) + N20) + N23 ≤ N ∧ xxw_lengthOfN N23 y6 r22 σ21 (fun r25 σ24 => (∃ N26 : Nat, ((((0 + N14) + N17) + N20) + N23) + N26 ≤ N ∧ xxw_sortOf N26 y12 σ24 (fun r28 σ27 => (∃ N29 : Nat, (((((0 + N14) + N17) + N20) + N23) + N26) + N29 ≤ N ∧ xxw_lengthOfN N29 y12 r28 σ27 (fun r31 σ30 => (((a5 < 0) → Q (-12 : Int32) σ30) ∧ (¬ (a5 < 0) → (((a2 < 0) → Q (-12 : Int32) σ30) ∧ (¬ (a2 < 0) → (((a4 < 0) → Q (-12 : Int32) σ30) ∧ (¬ (a4 < 0) → (((r25 < a2) → Q (-12 : Int32) σ30) ∧ (¬ (r25 < a2) → (((r31 < a4) → Q (-12 : Int32) σ30) ∧ (¬ (r31 < a4) → ((((r25 - a2) < a5) → Q (-12 : Int32) σ30) ∧ (¬ ((r25 - a2) < a5) → (((a5 ≤ (r31 - a4)) → ∃ (so32 n33 : Nat) (f34 : Nat → Int32) (n35 : Nat) (g36 : Nat → Int32), xx_ob σ30 y6 so32 n33 f34 ∧ xx_ob σ30 y12 so32 n35 g36 ∧ ¬ a2 < 0 ∧ ¬ a4 < 0 ∧ ¬ a5 < 0 ∧ a2.toNatClampNeg + a5.toNatClampNeg ≤ n33 ∧ a4.toNatClampNeg + a5.toNatClampNeg ≤ n35 ∧ (∀ i : Nat, i < a5.toNatClampNeg → cc_fit so32 (f34 (a2.toNatClampNeg + i))) ∧ (∀ σ37 : xx_S, σ37 = xx_ps σ30 y12 (.inl (cc_cls so32, n35, .inl (va_cpy f34 g36 a2.toNatClampNeg a4.toNatClampNeg a5.toNatClampNeg))) → Q a5 σ37)) ∧ (¬ (a5 ≤ (r31 - a4)) → Q (-12 : Int32) σ30))))))))))))))))))))))) ∧ (¬ (r16 = r19) → Q (-13 : Int32) σ18))))))))))))))))))
abbrev xxr_copy (N : Nat) : Room := { frames := 2, cells := N, slots := 64 * N, locals := 64 }
set_option maxHeartbeats 4000000 in
set_option maxRecDepth 100000 in
theorem xxt_copy (l : Launch) {N : Nat} {D : va_G} {E : Nat → ClassId} {A : Nat → Prop} {ad sk : Nat → Nat}  (a1 : Int32) (a2 : Int32) (a3 : Int32) (a4 : Int32) (a5 : Int32) (σ : xx_S) {Q : Int32 → xx_S → Prop} (hw : xxw_copy N a1 a2 a3 a4 a5 σ Q) :
    Met l yX0_copy (ws_ yX0_copy cX0_copy 10 (some .int)) (xxr_copy N) (va_Pc [.ref (ad 0), .int a1, .int a2, .int a3, .int a4, .int a5] (fun U => xx_V D E A ad sk σ U U.heap)) (va_Qi Q (fun u t => xx_W D E A ad sk u t t.heap) A) N (64 * N) A := by
  refine gg_entry (W0 := fun s H => xx_V D E A ad sk σ s H) (by decide) (Nat.le_of_ble_eq_true rfl) ?_
  intro p e s m args below meth c C0 hV ls hl
  have C0 : gg_C p s m args meth c RX0 cX0_copy 10 (some .int) := C0
  obtain ⟨hx, hb, hml, hown, hts, hr, hlocks⟩ := id C0
  have hl : lv_has ls 10 [(0, .ref (ad 0)), (1, .int a1), (2, .int a2), (3, .int a3), (4, .int a4), (5, .int a5)] := hl
  have hS : va_S A s.heap s.heap [] := va_S.rf
  have hC : 0 ≤ N := Nat.zero_le _
  have hA : xx_A sk A s := hV.2
  have hW : xx_W D E A ad sk σ s s.heap := hV.1
  unfold xxw_copy at hw
  refine lv_iload_n hx hb dX0_copy_0 rfl (lv_at hl 1 rfl) ?_
  refine xx_aS (k := 0) (n1 := 0) ⟨hx, hb, hml, hown, hts⟩ hA (xxt_isSheet l _ _ hw) (va_cwS 1 hts (lw_S q1030 q1031 q103 q1032) rfl rfl rfl cd_X0_isSheet.2 ⟨Nat.le_of_ble_eq_true rfl, Nat.le_of_ble_eq_true rfl⟩) hW hS rfl hl.1 rfl (Nat.le_of_ble_eq_true rfl) dX0_copy_1 ⟨hC, Nat.mul_le_mul_left 64 hC⟩ (fun r2 σ1 H locs hw hW hS => ?_)
  obtain ⟨hz_r2, hw⟩ := hw
  refine lv_if_eq (tgt := 14) hx hb dX0_copy_4 (by decide) (fun c47 => ?_) (fun c47 => ?_)
  · have hw := hw.1 c47
    refine lv_bipush (v := (-2 : Int32)) hx hb dX0_copy_14 (by decide) ?_
    exact W.widen hC (Nat.mul_le_mul_left 64 hC) (gg_iret (xx_mv D E A ad sk) C0 hW hS hw dX0_copy_16)
  · have hw := hw.2 c47
    refine lv_iload_n hx hb dX0_copy_7 rfl (lv_at hl 3 rfl) ?_
    refine xx_aS (k := 0) (n1 := 0) ⟨hx, hb, hml, hown, hts⟩ hA (xxt_isSheet l _ _ hw) (va_cwS 1 hts (lw_S q1030 q1031 q103 q1032) rfl rfl rfl cd_X0_isSheet.2 ⟨Nat.le_of_ble_eq_true rfl, Nat.le_of_ble_eq_true rfl⟩) hW hS rfl hl.1 rfl (Nat.le_of_ble_eq_true rfl) dX0_copy_8 ⟨hC, Nat.mul_le_mul_left 64 hC⟩ (fun r4 σ3 H locs hw hW hS => ?_)
    obtain ⟨hz_r4, hw⟩ := hw
    refine lv_if_ne (tgt := 17) hx hb dX0_copy_11 (by decide) (fun c46 => ?_) (fun c46 => ?_)
    · have hw := hw.2 c46
      refine lv_aload_n hx hb dX0_copy_17 rfl (lv_at hl 0 rfl) ?_
      refine xx_getr hx hb hts hown hW 39 38 (by decide) q789 dX0_copy_18 ?_
      refine lv_iload_n hx hb dX0_copy_21 rfl (lv_at hl 1 rfl) ?_
      obtain ⟨hin5, hw⟩ := hw
      refine xx_aldS hx hb hW hin5 dX0_copy_22 ?_
      refine xx_getS hx hb hts hown hA.1 hW hin5 dX0_copy_23 (fun e7 => ?_) (fun y6 e7 => ?_)
      · have hw := hw.1 e7
        refine lv_astoreN (lv' := [(6, .null), (0, .ref (ad 0)), (1, .int a1), (2, .int a2), (3, .int a3), (4, .int a4), (5, .int a5)]) hx hb dX0_copy_26 hl (by decide) rfl (fun ls hl => ?_)
        refine lv_aload_n hx hb dX0_copy_28 rfl (lv_at hl 1 rfl) ?_
        refine xx_getr hx hb hts hown hW 39 38 (by decide) q789 dX0_copy_29 ?_
        refine lv_iload_n hx hb dX0_copy_32 rfl (lv_at hl 4 rfl) ?_
        obtain ⟨hin8, hw⟩ := hw
        refine xx_aldS hx hb hW hin8 dX0_copy_33 ?_
        refine xx_getS hx hb hts hown hA.1 hW hin8 dX0_copy_34 (fun e10 => ?_) (fun y9 e10 => ?_)
        · have hw := hw.1 e10
          refine lv_astoreN (lv' := [(7, .null), (6, .null), (0, .ref (ad 0)), (1, .int a1), (2, .int a2), (3, .int a3), (4, .int a4), (5, .int a5)]) hx hb dX0_copy_37 hl (by decide) rfl (fun ls hl => ?_)
          refine lv_aloadN hx hb dX0_copy_39 (lv_at hl 1 rfl) ?_
          refine lv_ifnullN (tgt := 49) hx hb dX0_copy_41 (by decide) ?_
          refine lv_bipush (v := (-11 : Int32)) hx hb dX0_copy_49 (by decide) ?_
          exact W.widen hC (Nat.mul_le_mul_left 64 hC) (gg_iret (xx_mv D E A ad sk) C0 hW hS hw dX0_copy_51)
        · have hw := hw.2 y9 e10
          refine lv_astore (lv' := [(7, .ref y9), (6, .null), (0, .ref (ad 0)), (1, .int a1), (2, .int a2), (3, .int a3), (4, .int a4), (5, .int a5)]) hx hb dX0_copy_37 hl (by decide) rfl (fun ls hl => ?_)
          refine lv_aloadN hx hb dX0_copy_39 (lv_at hl 1 rfl) ?_
          refine lv_ifnullN (tgt := 49) hx hb dX0_copy_41 (by decide) ?_
          refine lv_bipush (v := (-11 : Int32)) hx hb dX0_copy_49 (by decide) ?_
          exact W.widen hC (Nat.mul_le_mul_left 64 hC) (gg_iret (xx_mv D E A ad sk) C0 hW hS hw dX0_copy_51)
      · have hw := hw.2 y6 e7
        refine lv_astore (lv' := [(6, .ref y6), (0, .ref (ad 0)), (1, .int a1), (2, .int a2), (3, .int a3), (4, .int a4), (5, .int a5)]) hx hb dX0_copy_26 hl (by decide) rfl (fun ls hl => ?_)
        refine lv_aload_n hx hb dX0_copy_28 rfl (lv_at hl 1 rfl) ?_
        refine xx_getr hx hb hts hown hW 39 38 (by decide) q789 dX0_copy_29 ?_
        refine lv_iload_n hx hb dX0_copy_32 rfl (lv_at hl 4 rfl) ?_
        obtain ⟨hin11, hw⟩ := hw
        refine xx_aldS hx hb hW hin11 dX0_copy_33 ?_
        refine xx_getS hx hb hts hown hA.1 hW hin11 dX0_copy_34 (fun e13 => ?_) (fun y12 e13 => ?_)
        · have hw := hw.1 e13
          refine lv_astoreN (lv' := [(7, .null), (6, .ref y6), (0, .ref (ad 0)), (1, .int a1), (2, .int a2), (3, .int a3), (4, .int a4), (5, .int a5)]) hx hb dX0_copy_37 hl (by decide) rfl (fun ls hl => ?_)
          refine lv_aload hx hb dX0_copy_39 (lv_at hl 1 rfl) ?_
          refine lv_ifnull hx hb dX0_copy_41 ?_
          refine lv_aloadN hx hb dX0_copy_44 (lv_at hl 0 rfl) ?_
          refine lv_ifnonnullN hx hb dX0_copy_46 ?_
          refine lv_bipush (v := (-11 : Int32)) hx hb dX0_copy_49 (by decide) ?_
          exact W.widen hC (Nat.mul_le_mul_left 64 hC) (gg_iret (xx_mv D E A ad sk) C0 hW hS hw dX0_copy_51)
        · have hw := hw.2 y12 e13
          refine lv_astore (lv' := [(7, .ref y12), (6, .ref y6), (0, .ref (ad 0)), (1, .int a1), (2, .int a2), (3, .int a3), (4, .int a4), (5, .int a5)]) hx hb dX0_copy_37 hl (by decide) rfl (fun ls hl => ?_)
          refine lv_aload hx hb dX0_copy_39 (lv_at hl 1 rfl) ?_
          refine lv_ifnull hx hb dX0_copy_41 ?_
          refine lv_aload hx hb dX0_copy_44 (lv_at hl 0 rfl) ?_
          refine lv_ifnonnull (tgt := 52) hx hb dX0_copy_46 (by decide) ?_
          refine lv_aload hx hb dX0_copy_52 (lv_at hl 1 rfl) ?_
          obtain ⟨N14, hC1, hw⟩ := hw
          refine xx_aS (k := 0) (n1 := N14) ⟨hx, hb, hml, hown, hts⟩ hA (xxt_sortOf l _ _ hw) (va_cwS 1 hts (lw_S q1034 q1035 q103 q1036) rfl rfl rfl cd_X0_sortOf.2 ⟨Nat.le_of_ble_eq_true rfl, Nat.le_of_ble_eq_true rfl⟩) hW hS rfl hl.1 rfl (Nat.le_of_ble_eq_true rfl) dX0_copy_54 ⟨hC1, Nat.mul_le_mul_left 64 hC1⟩ (fun r16 σ15 H locs hw hW hS => ?_)
          have hC := hC1
          refine lv_aload hx hb dX0_copy_57 (lv_at hl 0 rfl) ?_
          obtain ⟨N17, hC1, hw⟩ := hw
          refine xx_aS (k := (0 + N14)) (n1 := N17) ⟨hx, hb, hml, hown, hts⟩ hA (xxt_sortOf l _ _ hw) (va_cwS 1 hts (lw_S q1034 q1035 q103 q1036) rfl rfl rfl cd_X0_sortOf.2 ⟨Nat.le_of_ble_eq_true rfl, Nat.le_of_ble_eq_true rfl⟩) hW hS rfl hl.1 rfl (Nat.le_of_ble_eq_true rfl) dX0_copy_59 ⟨hC1, Nat.mul_le_mul_left 64 hC1⟩ (fun r19 σ18 H locs hw hW hS => ?_)
          have hC := hC1
          refine lv_icmp_eq (tgt := 68) hx hb dX0_copy_62 (by decide) (fun c45 => ?_) (fun c45 => ?_)
          · have hw := hw.1 c45
            refine lv_aload hx hb dX0_copy_68 (lv_at hl 1 rfl) ?_
            refine lv_aload hx hb dX0_copy_70 (lv_at hl 1 rfl) ?_
            obtain ⟨N20, hC1, hw⟩ := hw
            refine xx_aS (k := ((0 + N14) + N17)) (n1 := N20) ⟨hx, hb, hml, hown, hts⟩ hA (xxt_sortOf l _ _ hw) (va_cwS 1 hts (lw_S q1034 q1035 q103 q1036) rfl rfl rfl cd_X0_sortOf.2 ⟨Nat.le_of_ble_eq_true rfl, Nat.le_of_ble_eq_true rfl⟩) hW hS rfl hl.1 rfl (Nat.le_of_ble_eq_true rfl) dX0_copy_72 ⟨hC1, Nat.mul_le_mul_left 64 hC1⟩ (fun r22 σ21 H locs hw hW hS => ?_)
            have hC := hC1
            obtain ⟨N23, hC1, hw⟩ := hw
            refine xx_aS (k := (((0 + N14) + N17) + N20)) (n1 := N23) ⟨hx, hb, hml, hown, hts⟩ hA (xxt_lengthOfN l _ _ _ hw) (va_cwS 2 hts (lw_S q1039 q1040 q103 q1041) rfl rfl rfl cd_X0_lengthOf.2 ⟨Nat.le_of_ble_eq_true rfl, Nat.le_of_ble_eq_true rfl⟩) hW hS rfl hl.1 rfl (Nat.le_of_ble_eq_true rfl) dX0_copy_75 ⟨hC1, Nat.mul_le_mul_left 64 hC1⟩ (fun r25 σ24 H locs hw hW hS => ?_)
            have hC := hC1
            refine lv_istore (lv' := [(8, .int r25), (7, .ref y12), (6, .ref y6), (0, .ref (ad 0)), (1, .int a1), (2, .int a2), (3, .int a3), (4, .int a4), (5, .int a5)]) hx hb dX0_copy_78 hl (by decide) rfl (fun ls hl => ?_)
            refine lv_aload hx hb dX0_copy_80 (lv_at hl 1 rfl) ?_
            refine lv_aload hx hb dX0_copy_82 (lv_at hl 1 rfl) ?_
            obtain ⟨N26, hC1, hw⟩ := hw
            refine xx_aS (k := ((((0 + N14) + N17) + N20) + N23)) (n1 := N26) ⟨hx, hb, hml, hown, hts⟩ hA (xxt_sortOf l _ _ hw) (va_cwS 1 hts (lw_S q1034 q1035 q103 q1036) rfl rfl rfl cd_X0_sortOf.2 ⟨Nat.le_of_ble_eq_true rfl, Nat.le_of_ble_eq_true rfl⟩) hW hS rfl hl.1 rfl (Nat.le_of_ble_eq_true rfl) dX0_copy_84 ⟨hC1, Nat.mul_le_mul_left 64 hC1⟩ (fun r28 σ27 H locs hw hW hS => ?_)
            have hC := hC1
            obtain ⟨N29, hC1, hw⟩ := hw
            refine xx_aS (k := (((((0 + N14) + N17) + N20) + N23) + N26)) (n1 := N29) ⟨hx, hb, hml, hown, hts⟩ hA (xxt_lengthOfN l _ _ _ hw) (va_cwS 2 hts (lw_S q1039 q1040 q103 q1041) rfl rfl rfl cd_X0_lengthOf.2 ⟨Nat.le_of_ble_eq_true rfl, Nat.le_of_ble_eq_true rfl⟩) hW hS rfl hl.1 rfl (Nat.le_of_ble_eq_true rfl) dX0_copy_87 ⟨hC1, Nat.mul_le_mul_left 64 hC1⟩ (fun r31 σ30 H locs hw hW hS => ?_)
            have hC := hC1
            refine lv_istore (lv' := [(9, .int r31), (8, .int r25), (7, .ref y12), (6, .ref y6), (0, .ref (ad 0)), (1, .int a1), (2, .int a2), (3, .int a3), (4, .int a4), (5, .int a5)]) hx hb dX0_copy_90 hl (by decide) rfl (fun ls hl => ?_)
            refine lv_iload hx hb dX0_copy_92 (lv_at hl 9 rfl) ?_
            refine lv_if_lt (tgt := 138) hx hb dX0_copy_94 (by decide) (fun c44 => ?_) (fun c44 => ?_)
            · have hw := hw.1 c44
              refine lv_bipush (v := (-12 : Int32)) hx hb dX0_copy_138 (by decide) ?_
              exact W.widen hC (Nat.mul_le_mul_left 64 hC) (gg_iret (xx_mv D E A ad sk) C0 hW hS hw dX0_copy_140)
            · have hw := hw.2 c44
              refine lv_iload_n hx hb dX0_copy_97 rfl (lv_at hl 6 rfl) ?_
              refine lv_if_lt (tgt := 138) hx hb dX0_copy_98 (by decide) (fun c43 => ?_) (fun c43 => ?_)
              · have hw := hw.1 c43
                refine lv_bipush (v := (-12 : Int32)) hx hb dX0_copy_138 (by decide) ?_
                exact W.widen hC (Nat.mul_le_mul_left 64 hC) (gg_iret (xx_mv D E A ad sk) C0 hW hS hw dX0_copy_140)
              · have hw := hw.2 c43
                refine lv_iload hx hb dX0_copy_101 (lv_at hl 8 rfl) ?_
                refine lv_if_lt (tgt := 138) hx hb dX0_copy_103 (by decide) (fun c42 => ?_) (fun c42 => ?_)
                · have hw := hw.1 c42
                  refine lv_bipush (v := (-12 : Int32)) hx hb dX0_copy_138 (by decide) ?_
                  exact W.widen hC (Nat.mul_le_mul_left 64 hC) (gg_iret (xx_mv D E A ad sk) C0 hW hS hw dX0_copy_140)
                · have hw := hw.2 c42
                  refine lv_iload_n hx hb dX0_copy_106 rfl (lv_at hl 6 rfl) ?_
                  refine lv_iload hx hb dX0_copy_107 (lv_at hl 1 rfl) ?_
                  refine lv_icmp_gt (tgt := 138) hx hb dX0_copy_109 (by decide) (fun c41 => ?_) (fun c41 => ?_)
                  · have hw := hw.1 c41
                    refine lv_bipush (v := (-12 : Int32)) hx hb dX0_copy_138 (by decide) ?_
                    exact W.widen hC (Nat.mul_le_mul_left 64 hC) (gg_iret (xx_mv D E A ad sk) C0 hW hS hw dX0_copy_140)
                  · have hw := hw.2 c41
                    refine lv_iload hx hb dX0_copy_112 (lv_at hl 8 rfl) ?_
                    refine lv_iload hx hb dX0_copy_114 (lv_at hl 0 rfl) ?_
                    refine lv_icmp_gt (tgt := 138) hx hb dX0_copy_116 (by decide) (fun c40 => ?_) (fun c40 => ?_)
                    · have hw := hw.1 c40
                      refine lv_bipush (v := (-12 : Int32)) hx hb dX0_copy_138 (by decide) ?_
                      exact W.widen hC (Nat.mul_le_mul_left 64 hC) (gg_iret (xx_mv D E A ad sk) C0 hW hS hw dX0_copy_140)
                    · have hw := hw.2 c40
                      refine lv_iload hx hb dX0_copy_119 (lv_at hl 9 rfl) ?_
                      refine lv_iload hx hb dX0_copy_121 (lv_at hl 1 rfl) ?_
                      refine lv_iload_n hx hb dX0_copy_123 rfl (lv_at hl 6 rfl) ?_
                      refine lv_isub hx hb dX0_copy_124 ?_
                      refine lv_icmp_gt (tgt := 138) hx hb dX0_copy_125 (by decide) (fun c39 => ?_) (fun c39 => ?_)
                      · have hw := hw.1 c39
                        refine lv_bipush (v := (-12 : Int32)) hx hb dX0_copy_138 (by decide) ?_
                        exact W.widen hC (Nat.mul_le_mul_left 64 hC) (gg_iret (xx_mv D E A ad sk) C0 hW hS hw dX0_copy_140)
                      · have hw := hw.2 c39
                        refine lv_iload hx hb dX0_copy_128 (lv_at hl 9 rfl) ?_
                        refine lv_iload hx hb dX0_copy_130 (lv_at hl 0 rfl) ?_
                        refine lv_iload hx hb dX0_copy_132 (lv_at hl 8 rfl) ?_
                        refine lv_isub hx hb dX0_copy_134 ?_
                        refine lv_icmp_le (tgt := 141) hx hb dX0_copy_135 (by decide) (fun c38 => ?_) (fun c38 => ?_)
                        · have hw := hw.1 c38
                          refine lv_aload hx hb dX0_copy_141 (lv_at hl 3 rfl) ?_
                          refine lv_iload_n hx hb dX0_copy_143 rfl (lv_at hl 6 rfl) ?_
                          refine lv_aload hx hb dX0_copy_144 (lv_at hl 2 rfl) ?_
                          refine lv_iload hx hb dX0_copy_146 (lv_at hl 8 rfl) ?_
                          refine lv_iload hx hb dX0_copy_148 (lv_at hl 9 rfl) ?_
                          obtain ⟨so32, n33, f34, n35, g36, hO0, hO1, hb1, hb2, hb3, hb4, hb5, hfit, hw⟩ := hw
                          refine xx_ocopy hx hb (hml.trans hl.1.symm) hown (hts _ q970) (hts _ q972) (hts _ q971) (hts _ q128) hW hS hO0 hO1 hb1 hb2 hb3 hb4 hb5 hfit (Nat.le_of_ble_eq_true rfl) (Nat.le_of_ble_eq_true rfl) dX0_copy_150 (fun H locs hW hS => ?_)
                          obtain ⟨σ37, eσ37⟩ : ∃ z, z = xx_ps σ30 y12 (.inl (cc_cls so32, n35, .inl (va_cpy f34 g36 a2.toNatClampNeg a4.toNatClampNeg a5.toNatClampNeg))) := ⟨_, rfl⟩
                          rw [← eσ37] at hW
                          have hw := hw σ37 eσ37
                          refine lv_iload hx hb dX0_copy_153 (lv_at hl 9 rfl) ?_
                          exact W.widen hC (Nat.mul_le_mul_left 64 hC) (gg_iret (xx_mv D E A ad sk) C0 hW hS hw dX0_copy_155)
                        · have hw := hw.2 c38
                          refine lv_bipush (v := (-12 : Int32)) hx hb dX0_copy_138 (by decide) ?_
                          exact W.widen hC (Nat.mul_le_mul_left 64 hC) (gg_iret (xx_mv D E A ad sk) C0 hW hS hw dX0_copy_140)
          · have hw := hw.2 c45
            refine lv_bipush (v := (-13 : Int32)) hx hb dX0_copy_65 (by decide) ?_
            exact W.widen hC (Nat.mul_le_mul_left 64 hC) (gg_iret (xx_mv D E A ad sk) C0 hW hS hw dX0_copy_67)
    · have hw := hw.1 c46
      refine lv_bipush (v := (-2 : Int32)) hx hb dX0_copy_14 (by decide) ?_
      exact W.widen hC (Nat.mul_le_mul_left 64 hC) (gg_iret (xx_mv D E A ad sk) C0 hW hS hw dX0_copy_16)
