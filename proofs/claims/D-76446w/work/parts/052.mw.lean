theorem cd_X8_read : yX8_read.cls = RX8 ∧ yX8_read.cls ≠ "java/lang/invoke/MethodHandle" ∧ yX8_read.cls ≠ "java/lang/invoke/VarHandle" ∧ (parseMethodDescriptor yX8_read.desc).map (fun d => d.parameters.length) = some 2 := by decide +kernel
/-! GleanersForGapsModel.read(II)I -/
def mmw_read_147  (Q : Int32 → gg_S → Prop)  (x2 : Int32) (x3 : Int32) (x4 : Int32) (x5 : Int32) (σ : gg_S) : Prop :=
    (((x2 = 0) → Q x3 σ) ∧ (¬ (x2 = 0) → (((x2 = (1 : Int32)) → Q x4 σ) ∧ (¬ (x2 = (1 : Int32)) → Q x5 σ))))
def mmw_read_127  (Q : Int32 → gg_S → Prop)  (x2 : Int32) (x3 : Int32) (x4 : Int32) (s0 : Int32) (σ : gg_S) : Prop :=
    ((((gg_g σ 0 26) = 0) → ((((gg_g σ 0 22) = 0) → mmw_read_147 Q x2 x3 x4 s0 σ) ∧ (¬ ((gg_g σ 0 22) = 0) → (mmw_fail σ (fun σ21 => mmw_read_147 Q x2 x3 x4 s0 σ21))))) ∧ (¬ ((gg_g σ 0 26) = 0) → mmw_read_147 Q x2 x3 x4 s0 σ))
def mmw_read_92  (Q : Int32 → gg_S → Prop)  (x2 : Int32) (x3 : Int32) (s0 : Int32) (σ : gg_S) : Prop :=
    ((((gg_g σ 0 26) = 0) → (mmw_isWord (115 : Int32) (104 : Int32) (97 : Int32) (107 : Int32) (101 : Int32) (115 : Int32) (0 : Int32) (0 : Int32) σ (fun r16 σ15 => (mmw_part r16 σ15 (fun r18 σ17 => mmw_read_127 Q x2 x3 s0 r18 σ17))))) ∧ (¬ ((gg_g σ 0 26) = 0) → mmw_read_127 Q x2 x3 s0 (0 : Int32) σ))
def mmw_read  (a1 : Int32) (a2 : Int32) (σ : gg_S) (Q : Int32 → gg_S → Prop) : Prop :=
    (∀ σ1 : gg_S, σ1 = gg_s σ 0 19 ((160 : Int32) * a1) → vp_in a1 6 ∧ (∀ σ2 : gg_S, σ2 = gg_s σ1 0 20 (gg_g σ1 2 a1.toNatClampNeg) → (∀ σ3 : gg_S, σ3 = gg_s σ2 0 21 (0 : Int32) → (∀ σ4 : gg_S, σ4 = gg_s σ3 0 25 (0 : Int32) → (∀ σ5 : gg_S, σ5 = gg_s σ4 0 26 (0 : Int32) → (mmw_next σ5 (fun σ6 => (mmw_isWord (116 : Int32) (97 : Int32) (107 : Int32) (101 : Int32) (115 : Int32) (0 : Int32) (0 : Int32) (0 : Int32) σ6 (fun r8 σ7 => (mmw_part r8 σ7 (fun r10 σ9 => ((((gg_g σ9 0 26) = 0) → (mmw_isWord (107 : Int32) (101 : Int32) (101 : Int32) (112 : Int32) (115 : Int32) (0 : Int32) (0 : Int32) (0 : Int32) σ9 (fun r12 σ11 => (mmw_part r12 σ11 (fun r14 σ13 => mmw_read_92 Q a2 r10 r14 σ13))))) ∧ (¬ ((gg_g σ9 0 26) = 0) → mmw_read_92 Q a2 r10 (0 : Int32) σ9)))))))))))))
abbrev mmr_read : Room := { frames := 48, cells := 0, slots := 0, locals := 1101 }
set_option maxHeartbeats 4000000 in
set_option maxRecDepth 100000 in
theorem mmk_read_147 {p : Program} {l : Launch} {e : Env} {s : State} {m : MethodId} {args : Array Value} {below : List Frame} {meth : Method} {c : Code} {D : va_G} {cl : List vw_C} {E : ClassId × ClassId} {A : Nat → Prop} {ad : Nat → Nat} {Q : Int32 → gg_S → Prop}   (C0 : gg_C p s m args meth c RX8 cX8_read 6 (some .int))  :
    ∀ (x2 : Int32) (x3 : Int32) (x4 : Int32) (x5 : Int32) (σ : gg_S) (H : Heap) (locs : List Loc) (ls : Array Slot), mmw_read_147 Q x2 x3 x4 x5 σ → mm_W D cl E A ad σ s H → va_S A s.heap H locs → lv_has ls 6 [(0, .ref (ad 0)), (2, .int x2), (3, .int x3), (4, .int x4), (5, .int x5)] → W p l e mmr_read s m args below meth c H locs 0 0 (MQ below (va_Qi Q (fun u t => mm_W D cl E A ad u t t.heap) A) args s 0 0 A) (F0 m 147 ls []) := by
  obtain ⟨hx, hb, hml, hown, hts, hr, hlocks⟩ := id C0
  intro x2 x3 x4 x5 σ H locs ls hw hW hS hl
  unfold mmw_read_147 at hw
  refine lv_iload_n hx hb dX8_read_147 rfl (lv_at hl 1 rfl) ?_
  refine lv_if_ne (tgt := 155) hx hb dX8_read_148 (by decide) (fun c20 => ?_) (fun c20 => ?_)
  · have hw := hw.2 c20
    refine lv_iload_n hx hb dX8_read_155 rfl (lv_at hl 1 rfl) ?_
    refine lv_iconst (v := (1 : Int32)) hx hb dX8_read_156 (by decide) ?_
    refine lv_icmp_ne (tgt := 165) hx hb dX8_read_157 (by decide) (fun c19 => ?_) (fun c19 => ?_)
    · have hw := hw.2 c19
      refine lv_iload hx hb dX8_read_165 (lv_at hl 4 rfl) ?_
      exact gg_iret (mm_mv D cl E A ad) C0 hW hS hw dX8_read_167
    · have hw := hw.1 c19
      refine lv_iload hx hb dX8_read_160 (lv_at hl 3 rfl) ?_
      refine lv_goto (tgt := 167) hx hb dX8_read_162 (by decide) ?_
      exact gg_iret (mm_mv D cl E A ad) C0 hW hS hw dX8_read_167
  · have hw := hw.1 c20
    refine lv_iload_n hx hb dX8_read_151 rfl (lv_at hl 2 rfl) ?_
    refine lv_goto (tgt := 167) hx hb dX8_read_152 (by decide) ?_
    exact gg_iret (mm_mv D cl E A ad) C0 hW hS hw dX8_read_167
set_option maxHeartbeats 4000000 in
set_option maxRecDepth 100000 in
theorem mmk_read_127 {p : Program} {l : Launch} {e : Env} {s : State} {m : MethodId} {args : Array Value} {below : List Frame} {meth : Method} {c : Code} {D : va_G} {cl : List vw_C} {E : ClassId × ClassId} {A : Nat → Prop} {ad : Nat → Nat} {Q : Int32 → gg_S → Prop}   (C0 : gg_C p s m args meth c RX8 cX8_read 6 (some .int))  :
    ∀ (x2 : Int32) (x3 : Int32) (x4 : Int32) (s0 : Int32) (σ : gg_S) (H : Heap) (locs : List Loc) (ls : Array Slot), mmw_read_127 Q x2 x3 x4 s0 σ → mm_W D cl E A ad σ s H → va_S A s.heap H locs → lv_has ls 6 [(0, .ref (ad 0)), (2, .int x2), (3, .int x3), (4, .int x4)] → W p l e mmr_read s m args below meth c H locs 0 0 (MQ below (va_Qi Q (fun u t => mm_W D cl E A ad u t t.heap) A) args s 0 0 A) (F0 m 127 ls [.int s0]) := by
  obtain ⟨hx, hb, hml, hown, hts, hr, hlocks⟩ := id C0
  intro x2 x3 x4 s0 σ H locs ls hw hW hS hl
  unfold mmw_read_127 at hw
  refine lv_istore (lv' := [(5, .int s0), (0, .ref (ad 0)), (2, .int x2), (3, .int x3), (4, .int x4)]) hx hb dX8_read_127 hl (by decide) rfl (fun ls hl => ?_)
  refine lv_aload_n hx hb dX8_read_129 rfl (lv_at hl 1 rfl) ?_
  refine mm_geti hx hb hts hown hW 26 (by decide) q1297 dX8_read_130 ?_
  refine lv_if_ne (tgt := 147) hx hb dX8_read_133 (by decide) (fun c23 => ?_) (fun c23 => ?_)
  · have hw := hw.2 c23
    exact mmk_read_147  C0   x2 x3 x4 s0 σ _ _ _ hw hW hS (lv_sub hl [1, 2, 3, 4, 0] rfl)
  · have hw := hw.1 c23
    refine lv_aload_n hx hb dX8_read_136 rfl (lv_at hl 1 rfl) ?_
    refine mm_geti hx hb hts hown hW 22 (by decide) q1293 dX8_read_137 ?_
    refine lv_if_eq (tgt := 147) hx hb dX8_read_140 (by decide) (fun c22 => ?_) (fun c22 => ?_)
    · have hw := hw.1 c22
      exact mmk_read_147  C0   x2 x3 x4 s0 σ _ _ _ hw hW hS (lv_sub hl [1, 2, 3, 4, 0] rfl)
    · have hw := hw.2 c22
      refine lv_aload_n hx hb dX8_read_143 rfl (lv_at hl 1 rfl) ?_
      refine mm_VV ⟨hx, hb, hml, hown, hts⟩ (mmt_fail l _ hw) (cwV 0 hts (lw_V q1486 q1488 qs70 q120 q1489) rfl rfl rfl cd_X8_fail ⟨Nat.le_of_ble_eq_true rfl, Nat.le_of_ble_eq_true rfl⟩) hW (mm_recv hW) hS rfl hl.1 rfl (Nat.le_of_ble_eq_true rfl) dX8_read_144 (fun σ21 H locs hw hW hS => ?_)
      exact mmk_read_147  C0   x2 x3 x4 s0 σ21 _ _ _ hw hW hS (lv_sub hl [1, 2, 3, 4, 0] rfl)
set_option maxHeartbeats 4000000 in
set_option maxRecDepth 100000 in
theorem mmk_read_92 {p : Program} {l : Launch} {e : Env} {s : State} {m : MethodId} {args : Array Value} {below : List Frame} {meth : Method} {c : Code} {D : va_G} {cl : List vw_C} {E : ClassId × ClassId} {A : Nat → Prop} {ad : Nat → Nat} {Q : Int32 → gg_S → Prop}   (C0 : gg_C p s m args meth c RX8 cX8_read 6 (some .int))  :
    ∀ (x2 : Int32) (x3 : Int32) (s0 : Int32) (σ : gg_S) (H : Heap) (locs : List Loc) (ls : Array Slot), mmw_read_92 Q x2 x3 s0 σ → mm_W D cl E A ad σ s H → va_S A s.heap H locs → lv_has ls 6 [(0, .ref (ad 0)), (2, .int x2), (3, .int x3)] → W p l e mmr_read s m args below meth c H locs 0 0 (MQ below (va_Qi Q (fun u t => mm_W D cl E A ad u t t.heap) A) args s 0 0 A) (F0 m 92 ls [.int s0]) := by
  obtain ⟨hx, hb, hml, hown, hts, hr, hlocks⟩ := id C0
  intro x2 x3 s0 σ H locs ls hw hW hS hl
  unfold mmw_read_92 at hw
  refine lv_istore (lv' := [(4, .int s0), (0, .ref (ad 0)), (2, .int x2), (3, .int x3)]) hx hb dX8_read_92 hl (by decide) rfl (fun ls hl => ?_)
  refine lv_aload_n hx hb dX8_read_94 rfl (lv_at hl 1 rfl) ?_
  refine mm_geti hx hb hts hown hW 26 (by decide) q1297 dX8_read_95 ?_
  refine lv_if_eq (tgt := 105) hx hb dX8_read_98 (by decide) (fun c24 => ?_) (fun c24 => ?_)
  · have hw := hw.1 c24
    refine lv_aload_n hx hb dX8_read_105 rfl (lv_at hl 1 rfl) ?_
    refine lv_aload_n hx hb dX8_read_106 rfl (lv_at hl 1 rfl) ?_
    refine lv_bipush (v := (115 : Int32)) hx hb dX8_read_107 (by decide) ?_
    refine lv_bipush (v := (104 : Int32)) hx hb dX8_read_109 (by decide) ?_
    refine lv_bipush (v := (97 : Int32)) hx hb dX8_read_111 (by decide) ?_
    refine lv_bipush (v := (107 : Int32)) hx hb dX8_read_113 (by decide) ?_
    refine lv_bipush (v := (101 : Int32)) hx hb dX8_read_115 (by decide) ?_
    refine lv_bipush (v := (115 : Int32)) hx hb dX8_read_117 (by decide) ?_
    refine lv_iconst (v := (0 : Int32)) hx hb dX8_read_119 (by decide) ?_
    refine lv_iconst (v := (0 : Int32)) hx hb dX8_read_120 (by decide) ?_
    refine mm_VI ⟨hx, hb, hml, hown, hts⟩ (mmt_isWord l _ _ _ _ _ _ _ _ _ hw) (cwV 8 hts (lw_V q1474 q1476 qs67 q120 q1477) rfl rfl rfl cd_X8_isWord ⟨Nat.le_of_ble_eq_true rfl, Nat.le_of_ble_eq_true rfl⟩) hW (mm_recv hW) hS rfl hl.1 rfl (Nat.le_of_ble_eq_true rfl) dX8_read_121 (fun r16 σ15 H locs hw hW hS => ?_)
    obtain ⟨hz_r16, hw⟩ := hw
    refine mm_VI ⟨hx, hb, hml, hown, hts⟩ (mmt_part l _ _ hw) (cwV 1 hts (lw_V q1482 q1484 qs69 q120 q1485) rfl rfl rfl cd_X8_part ⟨Nat.le_of_ble_eq_true rfl, Nat.le_of_ble_eq_true rfl⟩) hW (mm_recv hW) hS rfl hl.1 rfl (Nat.le_of_ble_eq_true rfl) dX8_read_124 (fun r18 σ17 H locs hw hW hS => ?_)
    exact mmk_read_127  C0   x2 x3 s0 r18 σ17 _ _ _ hw hW hS (lv_sub hl [1, 2, 3, 0] rfl)
  · have hw := hw.2 c24
    refine lv_iconst (v := (0 : Int32)) hx hb dX8_read_101 (by decide) ?_
    refine lv_goto (tgt := 127) hx hb dX8_read_102 (by decide) ?_
    exact mmk_read_127  C0   x2 x3 s0 (0 : Int32) σ _ _ _ hw hW hS (lv_sub hl [1, 2, 3, 0] rfl)
set_option maxHeartbeats 4000000 in
set_option maxRecDepth 100000 in
theorem mmt_read (l : Launch) {D : va_G} {cl : List vw_C} {E : ClassId × ClassId} {A : Nat → Prop} {ad : Nat → Nat}  (a1 : Int32) (a2 : Int32) (σ : gg_S) {Q : Int32 → gg_S → Prop} (hw : mmw_read a1 a2 σ Q) :
    Met l yX8_read (ws_ yX8_read cX8_read 6 (some .int)) mmr_read (va_Pc [.ref (ad 0), .int a1, .int a2] (fun U => mm_W D cl E A ad σ U U.heap)) (va_Qi Q (fun u t => mm_W D cl E A ad u t t.heap) A) 0 0 A := by
  refine gg_entry (W0 := fun s H => mm_W D cl E A ad σ s H) (by decide) (Nat.le_of_ble_eq_true rfl) ?_
  intro p e s m args below meth c C0 hW ls hl
  have C0 : gg_C p s m args meth c RX8 cX8_read 6 (some .int) := C0
  obtain ⟨hx, hb, hml, hown, hts, hr, hlocks⟩ := id C0
  have hl : lv_has ls 6 [(0, .ref (ad 0)), (1, .int a1), (2, .int a2)] := hl
  have hS : va_S A s.heap s.heap [] := va_S.rf
  unfold mmw_read at hw
  refine lv_aload_n hx hb dX8_read_0 rfl (lv_at hl 0 rfl) ?_
  refine lv_sipush (v := (160 : Int32)) hx hb dX8_read_1 (by decide) ?_
  refine lv_iload_n hx hb dX8_read_4 rfl (lv_at hl 1 rfl) ?_
  refine lv_imul hx hb dX8_read_5 ?_
  refine mm_puti hx hb hts hown hW hS 19 (by decide) q1290 rfl rfl rfl dX8_read_6 (fun H locs hW hS => ?_)
  obtain ⟨σ1, eσ1⟩ : ∃ z, z = gg_s σ 0 19 ((160 : Int32) * a1) := ⟨_, rfl⟩
  rw [← eσ1] at hW
  have hw := hw σ1 eσ1
  refine lv_aload_n hx hb dX8_read_9 rfl (lv_at hl 0 rfl) ?_
  refine lv_aload_n hx hb dX8_read_10 rfl (lv_at hl 0 rfl) ?_
  refine mm_getr hx hb hts hown hW 2 2 (by decide) q1273 dX8_read_11 ?_
  refine lv_iload_n hx hb dX8_read_14 rfl (lv_at hl 1 rfl) ?_
  obtain ⟨hin, hw⟩ := hw
  refine mm_ald hx hb hW 1 (by decide) hin dX8_read_15 ?_
  refine mm_puti hx hb hts hown hW hS 20 (by decide) q1291 rfl rfl rfl dX8_read_16 (fun H locs hW hS => ?_)
  obtain ⟨σ2, eσ2⟩ : ∃ z, z = gg_s σ1 0 20 (gg_g σ1 2 a1.toNatClampNeg) := ⟨_, rfl⟩
  rw [← eσ2] at hW
  have hw := hw σ2 eσ2
  refine lv_aload_n hx hb dX8_read_19 rfl (lv_at hl 0 rfl) ?_
  refine lv_iconst (v := (0 : Int32)) hx hb dX8_read_20 (by decide) ?_
  refine mm_puti hx hb hts hown hW hS 21 (by decide) q1292 rfl rfl rfl dX8_read_21 (fun H locs hW hS => ?_)
  obtain ⟨σ3, eσ3⟩ : ∃ z, z = gg_s σ2 0 21 (0 : Int32) := ⟨_, rfl⟩
  rw [← eσ3] at hW
  have hw := hw σ3 eσ3
  refine lv_aload_n hx hb dX8_read_24 rfl (lv_at hl 0 rfl) ?_
  refine lv_iconst (v := (0 : Int32)) hx hb dX8_read_25 (by decide) ?_
  refine mm_puti hx hb hts hown hW hS 25 (by decide) q1296 rfl rfl rfl dX8_read_26 (fun H locs hW hS => ?_)
  obtain ⟨σ4, eσ4⟩ : ∃ z, z = gg_s σ3 0 25 (0 : Int32) := ⟨_, rfl⟩
  rw [← eσ4] at hW
  have hw := hw σ4 eσ4
  refine lv_aload_n hx hb dX8_read_29 rfl (lv_at hl 0 rfl) ?_
  refine lv_iconst (v := (0 : Int32)) hx hb dX8_read_30 (by decide) ?_
  refine mm_puti hx hb hts hown hW hS 26 (by decide) q1297 rfl rfl rfl dX8_read_31 (fun H locs hW hS => ?_)
  obtain ⟨σ5, eσ5⟩ : ∃ z, z = gg_s σ4 0 26 (0 : Int32) := ⟨_, rfl⟩
  rw [← eσ5] at hW
  have hw := hw σ5 eσ5
  refine lv_aload_n hx hb dX8_read_34 rfl (lv_at hl 0 rfl) ?_
  refine mm_VV ⟨hx, hb, hml, hown, hts⟩ (mmt_next l _ hw) (cwV 0 hts (lw_V q1462 q1464 qs65 q120 q1465) rfl rfl rfl cd_X8_next ⟨Nat.le_of_ble_eq_true rfl, Nat.le_of_ble_eq_true rfl⟩) hW (mm_recv hW) hS rfl hl.1 rfl (Nat.le_of_ble_eq_true rfl) dX8_read_35 (fun σ6 H locs hw hW hS => ?_)
  refine lv_aload_n hx hb dX8_read_38 rfl (lv_at hl 0 rfl) ?_
  refine lv_aload_n hx hb dX8_read_39 rfl (lv_at hl 0 rfl) ?_
  refine lv_bipush (v := (116 : Int32)) hx hb dX8_read_40 (by decide) ?_
  refine lv_bipush (v := (97 : Int32)) hx hb dX8_read_42 (by decide) ?_
  refine lv_bipush (v := (107 : Int32)) hx hb dX8_read_44 (by decide) ?_
  refine lv_bipush (v := (101 : Int32)) hx hb dX8_read_46 (by decide) ?_
  refine lv_bipush (v := (115 : Int32)) hx hb dX8_read_48 (by decide) ?_
  refine lv_iconst (v := (0 : Int32)) hx hb dX8_read_50 (by decide) ?_
  refine lv_iconst (v := (0 : Int32)) hx hb dX8_read_51 (by decide) ?_
  refine lv_iconst (v := (0 : Int32)) hx hb dX8_read_52 (by decide) ?_
  refine mm_VI ⟨hx, hb, hml, hown, hts⟩ (mmt_isWord l _ _ _ _ _ _ _ _ _ hw) (cwV 8 hts (lw_V q1474 q1476 qs67 q120 q1477) rfl rfl rfl cd_X8_isWord ⟨Nat.le_of_ble_eq_true rfl, Nat.le_of_ble_eq_true rfl⟩) hW (mm_recv hW) hS rfl hl.1 rfl (Nat.le_of_ble_eq_true rfl) dX8_read_53 (fun r8 σ7 H locs hw hW hS => ?_)
  obtain ⟨hz_r8, hw⟩ := hw
  refine mm_VI ⟨hx, hb, hml, hown, hts⟩ (mmt_part l _ _ hw) (cwV 1 hts (lw_V q1482 q1484 qs69 q120 q1485) rfl rfl rfl cd_X8_part ⟨Nat.le_of_ble_eq_true rfl, Nat.le_of_ble_eq_true rfl⟩) hW (mm_recv hW) hS rfl hl.1 rfl (Nat.le_of_ble_eq_true rfl) dX8_read_56 (fun r10 σ9 H locs hw hW hS => ?_)
  refine lv_istore_n (lv' := [(3, .int r10), (0, .ref (ad 0)), (1, .int a1), (2, .int a2)]) hx hb dX8_read_59 rfl hl (by decide) rfl (fun ls hl => ?_)
  refine lv_aload_n hx hb dX8_read_60 rfl (lv_at hl 1 rfl) ?_
  refine mm_geti hx hb hts hown hW 26 (by decide) q1297 dX8_read_61 ?_
  refine lv_if_eq (tgt := 71) hx hb dX8_read_64 (by decide) (fun c25 => ?_) (fun c25 => ?_)
  · have hw := hw.1 c25
    refine lv_aload_n hx hb dX8_read_71 rfl (lv_at hl 1 rfl) ?_
    refine lv_aload_n hx hb dX8_read_72 rfl (lv_at hl 1 rfl) ?_
    refine lv_bipush (v := (107 : Int32)) hx hb dX8_read_73 (by decide) ?_
    refine lv_bipush (v := (101 : Int32)) hx hb dX8_read_75 (by decide) ?_
    refine lv_bipush (v := (101 : Int32)) hx hb dX8_read_77 (by decide) ?_
    refine lv_bipush (v := (112 : Int32)) hx hb dX8_read_79 (by decide) ?_
    refine lv_bipush (v := (115 : Int32)) hx hb dX8_read_81 (by decide) ?_
    refine lv_iconst (v := (0 : Int32)) hx hb dX8_read_83 (by decide) ?_
    refine lv_iconst (v := (0 : Int32)) hx hb dX8_read_84 (by decide) ?_
    refine lv_iconst (v := (0 : Int32)) hx hb dX8_read_85 (by decide) ?_
    refine mm_VI ⟨hx, hb, hml, hown, hts⟩ (mmt_isWord l _ _ _ _ _ _ _ _ _ hw) (cwV 8 hts (lw_V q1474 q1476 qs67 q120 q1477) rfl rfl rfl cd_X8_isWord ⟨Nat.le_of_ble_eq_true rfl, Nat.le_of_ble_eq_true rfl⟩) hW (mm_recv hW) hS rfl hl.1 rfl (Nat.le_of_ble_eq_true rfl) dX8_read_86 (fun r12 σ11 H locs hw hW hS => ?_)
    obtain ⟨hz_r12, hw⟩ := hw
    refine mm_VI ⟨hx, hb, hml, hown, hts⟩ (mmt_part l _ _ hw) (cwV 1 hts (lw_V q1482 q1484 qs69 q120 q1485) rfl rfl rfl cd_X8_part ⟨Nat.le_of_ble_eq_true rfl, Nat.le_of_ble_eq_true rfl⟩) hW (mm_recv hW) hS rfl hl.1 rfl (Nat.le_of_ble_eq_true rfl) dX8_read_89 (fun r14 σ13 H locs hw hW hS => ?_)
    exact mmk_read_92  C0   a2 r10 r14 σ13 _ _ _ hw hW hS (lv_sub hl [1, 3, 0] rfl)
  · have hw := hw.2 c25
    refine lv_iconst (v := (0 : Int32)) hx hb dX8_read_67 (by decide) ?_
    refine lv_goto (tgt := 92) hx hb dX8_read_68 (by decide) ?_
    exact mmk_read_92  C0   a2 r10 (0 : Int32) σ9 _ _ _ hw hW hS (lv_sub hl [1, 3, 0] rfl)
theorem cd_X8_within : yX8_within.cls = RX8 ∧ yX8_within.cls ≠ "java/lang/invoke/MethodHandle" ∧ yX8_within.cls ≠ "java/lang/invoke/VarHandle" ∧ (parseMethodDescriptor yX8_within.desc).map (fun d => d.parameters.length) = some 3 := by decide +kernel
/-! GleanersForGapsModel.within(III)I -/
def mmw_within  (a0 : Int32) (a1 : Int32) (a2 : Int32) (σ : gg_S) (Q : Int32 → gg_S → Prop) : Prop :=
    (((a1 ≤ a0) → (((a0 ≤ a2) → Q a0 σ) ∧ (¬ (a0 ≤ a2) → Q a2 σ))) ∧ (¬ (a1 ≤ a0) → Q a1 σ))
abbrev mmr_within : Room := { frames := 0, cells := 0, slots := 0, locals := 0 }
set_option maxHeartbeats 4000000 in
set_option maxRecDepth 100000 in
theorem mmt_within (l : Launch) {D : va_G} {cl : List vw_C} {E : ClassId × ClassId} {A : Nat → Prop} {ad : Nat → Nat}  (a0 : Int32) (a1 : Int32) (a2 : Int32) (σ : gg_S) {Q : Int32 → gg_S → Prop} (hw : mmw_within a0 a1 a2 σ Q) :
    Met l yX8_within (ws_ yX8_within cX8_within 3 (some .int)) mmr_within (va_Pc [.int a0, .int a1, .int a2] (fun U => mm_W D cl E A ad σ U U.heap)) (va_Qi Q (fun u t => mm_W D cl E A ad u t t.heap) A) 0 0 A := by
  refine gg_entry (W0 := fun s H => mm_W D cl E A ad σ s H) (by decide) (Nat.le_of_ble_eq_true rfl) ?_
  intro p e s m args below meth c C0 hW ls hl
  have C0 : gg_C p s m args meth c RX8 cX8_within 3 (some .int) := C0
  obtain ⟨hx, hb, hml, hown, hts, hr, hlocks⟩ := id C0
  have hl : lv_has ls 3 [(0, .int a0), (1, .int a1), (2, .int a2)] := hl
  have hS : va_S A s.heap s.heap [] := va_S.rf
  unfold mmw_within at hw
  refine lv_iload_n hx hb dX8_within_0 rfl (lv_at hl 0 rfl) ?_
  refine lv_iload_n hx hb dX8_within_1 rfl (lv_at hl 1 rfl) ?_
  refine lv_icmp_ge (tgt := 9) hx hb dX8_within_2 (by decide) (fun c2 => ?_) (fun c2 => ?_)
  · have hw := hw.1 c2
    refine lv_iload_n hx hb dX8_within_9 rfl (lv_at hl 0 rfl) ?_
    refine lv_iload_n hx hb dX8_within_10 rfl (lv_at hl 2 rfl) ?_
    refine lv_icmp_le (tgt := 18) hx hb dX8_within_11 (by decide) (fun c1 => ?_) (fun c1 => ?_)
    · have hw := hw.1 c1
      refine lv_iload_n hx hb dX8_within_18 rfl (lv_at hl 0 rfl) ?_
      exact gg_iret (mm_mv D cl E A ad) C0 hW hS hw dX8_within_19
    · have hw := hw.2 c1
      refine lv_iload_n hx hb dX8_within_14 rfl (lv_at hl 2 rfl) ?_
      refine lv_goto (tgt := 19) hx hb dX8_within_15 (by decide) ?_
      exact gg_iret (mm_mv D cl E A ad) C0 hW hS hw dX8_within_19
  · have hw := hw.2 c2
    refine lv_iload_n hx hb dX8_within_5 rfl (lv_at hl 1 rfl) ?_
    refine lv_goto (tgt := 19) hx hb dX8_within_6 (by decide) ?_
    exact gg_iret (mm_mv D cl E A ad) C0 hW hS hw dX8_within_19
theorem cd_X8_says : yX8_says.cls = RX8 ∧ yX8_says.cls ≠ "java/lang/invoke/MethodHandle" ∧ yX8_says.cls ≠ "java/lang/invoke/VarHandle" ∧ (parseMethodDescriptor yX8_says.desc).map (fun d => d.parameters.length) = some 6 := by decide +kernel
/-! GleanersForGapsModel.says(IIIIII)I -/
def mmw_says_67  (Q : Int32 → gg_S → Prop)  (s0 : Int32) (s1 : Int32) (s2 : Int32) (σ : gg_S) : Prop :=
    (mmw_within s0 s1 s2 σ (fun r10 σ9 => Q r10 σ9))
def mmw_says  (a1 : Int32) (a2 : Int32) (a3 : Int32) (a4 : Int32) (a5 : Int32) (a6 : Int32) (σ : gg_S) (Q : Int32 → gg_S → Prop) : Prop :=
    (∀ σ1 : gg_S, σ1 = gg_s σ 0 13 a2 → (∀ σ2 : gg_S, σ2 = gg_s σ1 0 14 a3 → (∀ σ3 : gg_S, σ3 = gg_s σ2 0 15 a4 → (∀ σ4 : gg_S, σ4 = gg_s σ3 0 16 (gg_g σ3 0 7) → (∀ σ5 : gg_S, σ5 = gg_s σ4 0 17 a5 → (∀ σ6 : gg_S, σ6 = gg_s σ5 0 18 a6 → (mmw_read (gg_g σ6 0 4) a1 σ6 (fun r8 σ7 => (((a1 = 0) → mmw_says_67 Q r8 (0 : Int32) (99 : Int32) σ7) ∧ (¬ (a1 = 0) → (((a1 = (1 : Int32)) → mmw_says_67 Q r8 (0 : Int32) (100 : Int32) σ7) ∧ (¬ (a1 = (1 : Int32)) → mmw_says_67 Q r8 (0 : Int32) (9 : Int32) σ7))))))))))))
abbrev mmr_says : Room := { frames := 49, cells := 0, slots := 0, locals := 1126 }
set_option maxHeartbeats 4000000 in
set_option maxRecDepth 100000 in
theorem mmk_says_67 {p : Program} {l : Launch} {e : Env} {s : State} {m : MethodId} {args : Array Value} {below : List Frame} {meth : Method} {c : Code} {D : va_G} {cl : List vw_C} {E : ClassId × ClassId} {A : Nat → Prop} {ad : Nat → Nat} {Q : Int32 → gg_S → Prop}   (C0 : gg_C p s m args meth c RX8 cX8_says 7 (some .int))  :
    ∀ (s0 : Int32) (s1 : Int32) (s2 : Int32) (σ : gg_S) (H : Heap) (locs : List Loc) (ls : Array Slot), mmw_says_67 Q s0 s1 s2 σ → mm_W D cl E A ad σ s H → va_S A s.heap H locs → lv_has ls 7 [(0, .ref (ad 0))] → W p l e mmr_says s m args below meth c H locs 0 0 (MQ below (va_Qi Q (fun u t => mm_W D cl E A ad u t t.heap) A) args s 0 0 A) (F0 m 67 ls [.int s2, .int s1, .int s0]) := by
  obtain ⟨hx, hb, hml, hown, hts, hr, hlocks⟩ := id C0
  intro s0 s1 s2 σ H locs ls hw hW hS hl
  unfold mmw_says_67 at hw
  refine mm_SI ⟨hx, hb, hml, hown, hts⟩ (mmt_within l _ _ _ _ hw) (va_cwS 3 hts (lw_S q1528 q1529 q120 q1530) rfl rfl rfl cd_X8_within.2 ⟨Nat.le_of_ble_eq_true rfl, Nat.le_of_ble_eq_true rfl⟩) hW hS rfl hl.1 rfl (Nat.le_of_ble_eq_true rfl) dX8_says_67 (fun r10 σ9 H locs hw hW hS => ?_)
  exact gg_iret (mm_mv D cl E A ad) C0 hW hS hw dX8_says_70
set_option maxHeartbeats 4000000 in
set_option maxRecDepth 100000 in
theorem mmt_says (l : Launch) {D : va_G} {cl : List vw_C} {E : ClassId × ClassId} {A : Nat → Prop} {ad : Nat → Nat}  (a1 : Int32) (a2 : Int32) (a3 : Int32) (a4 : Int32) (a5 : Int32) (a6 : Int32) (σ : gg_S) {Q : Int32 → gg_S → Prop} (hw : mmw_says a1 a2 a3 a4 a5 a6 σ Q) :
    Met l yX8_says (ws_ yX8_says cX8_says 7 (some .int)) mmr_says (va_Pc [.ref (ad 0), .int a1, .int a2, .int a3, .int a4, .int a5, .int a6] (fun U => mm_W D cl E A ad σ U U.heap)) (va_Qi Q (fun u t => mm_W D cl E A ad u t t.heap) A) 0 0 A := by
  refine gg_entry (W0 := fun s H => mm_W D cl E A ad σ s H) (by decide) (Nat.le_of_ble_eq_true rfl) ?_
  intro p e s m args below meth c C0 hW ls hl
  have C0 : gg_C p s m args meth c RX8 cX8_says 7 (some .int) := C0
  obtain ⟨hx, hb, hml, hown, hts, hr, hlocks⟩ := id C0
  have hl : lv_has ls 7 [(0, .ref (ad 0)), (1, .int a1), (2, .int a2), (3, .int a3), (4, .int a4), (5, .int a5), (6, .int a6)] := hl
  have hS : va_S A s.heap s.heap [] := va_S.rf
  unfold mmw_says at hw
  refine lv_aload_n hx hb dX8_says_0 rfl (lv_at hl 0 rfl) ?_
  refine lv_iload_n hx hb dX8_says_1 rfl (lv_at hl 2 rfl) ?_
  refine mm_puti hx hb hts hown hW hS 13 (by decide) q1284 rfl rfl rfl dX8_says_2 (fun H locs hW hS => ?_)
  obtain ⟨σ1, eσ1⟩ : ∃ z, z = gg_s σ 0 13 a2 := ⟨_, rfl⟩
  rw [← eσ1] at hW
  have hw := hw σ1 eσ1
  refine lv_aload_n hx hb dX8_says_5 rfl (lv_at hl 0 rfl) ?_
  refine lv_iload_n hx hb dX8_says_6 rfl (lv_at hl 3 rfl) ?_
  refine mm_puti hx hb hts hown hW hS 14 (by decide) q1285 rfl rfl rfl dX8_says_7 (fun H locs hW hS => ?_)
  obtain ⟨σ2, eσ2⟩ : ∃ z, z = gg_s σ1 0 14 a3 := ⟨_, rfl⟩
  rw [← eσ2] at hW
  have hw := hw σ2 eσ2
  refine lv_aload_n hx hb dX8_says_10 rfl (lv_at hl 0 rfl) ?_
  refine lv_iload hx hb dX8_says_11 (lv_at hl 4 rfl) ?_
  refine mm_puti hx hb hts hown hW hS 15 (by decide) q1286 rfl rfl rfl dX8_says_13 (fun H locs hW hS => ?_)
  obtain ⟨σ3, eσ3⟩ : ∃ z, z = gg_s σ2 0 15 a4 := ⟨_, rfl⟩
  rw [← eσ3] at hW
  have hw := hw σ3 eσ3
  refine lv_aload_n hx hb dX8_says_16 rfl (lv_at hl 0 rfl) ?_
  refine lv_aload_n hx hb dX8_says_17 rfl (lv_at hl 0 rfl) ?_
  refine mm_geti hx hb hts hown hW 7 (by decide) q1278 dX8_says_18 ?_
  refine mm_puti hx hb hts hown hW hS 16 (by decide) q1287 rfl rfl rfl dX8_says_21 (fun H locs hW hS => ?_)
  obtain ⟨σ4, eσ4⟩ : ∃ z, z = gg_s σ3 0 16 (gg_g σ3 0 7) := ⟨_, rfl⟩
  rw [← eσ4] at hW
  have hw := hw σ4 eσ4
  refine lv_aload_n hx hb dX8_says_24 rfl (lv_at hl 0 rfl) ?_
  refine lv_iload hx hb dX8_says_25 (lv_at hl 5 rfl) ?_
  refine mm_puti hx hb hts hown hW hS 17 (by decide) q1288 rfl rfl rfl dX8_says_27 (fun H locs hW hS => ?_)
  obtain ⟨σ5, eσ5⟩ : ∃ z, z = gg_s σ4 0 17 a5 := ⟨_, rfl⟩
  rw [← eσ5] at hW
  have hw := hw σ5 eσ5
  refine lv_aload_n hx hb dX8_says_30 rfl (lv_at hl 0 rfl) ?_
  refine lv_iload hx hb dX8_says_31 (lv_at hl 6 rfl) ?_
  refine mm_puti hx hb hts hown hW hS 18 (by decide) q1289 rfl rfl rfl dX8_says_33 (fun H locs hW hS => ?_)
  obtain ⟨σ6, eσ6⟩ : ∃ z, z = gg_s σ5 0 18 a6 := ⟨_, rfl⟩
  rw [← eσ6] at hW
  have hw := hw σ6 eσ6
  refine lv_aload_n hx hb dX8_says_36 rfl (lv_at hl 0 rfl) ?_
  refine lv_aload_n hx hb dX8_says_37 rfl (lv_at hl 0 rfl) ?_
  refine mm_geti hx hb hts hown hW 4 (by decide) q1275 dX8_says_38 ?_
  refine lv_iload_n hx hb dX8_says_41 rfl (lv_at hl 1 rfl) ?_
  refine mm_VI ⟨hx, hb, hml, hown, hts⟩ (mmt_read l _ _ _ hw) (cwV 2 hts (lw_V q1458 q1460 qs64 q120 q1461) rfl rfl rfl cd_X8_read ⟨Nat.le_of_ble_eq_true rfl, Nat.le_of_ble_eq_true rfl⟩) hW (mm_recv hW) hS rfl hl.1 rfl (Nat.le_of_ble_eq_true rfl) dX8_says_42 (fun r8 σ7 H locs hw hW hS => ?_)
  refine lv_iconst (v := (0 : Int32)) hx hb dX8_says_45 (by decide) ?_
  refine lv_iload_n hx hb dX8_says_46 rfl (lv_at hl 1 rfl) ?_
  refine lv_if_ne (tgt := 55) hx hb dX8_says_47 (by decide) (fun c12 => ?_) (fun c12 => ?_)
  · have hw := hw.2 c12
    refine lv_iload_n hx hb dX8_says_55 rfl (lv_at hl 1 rfl) ?_
    refine lv_iconst (v := (1 : Int32)) hx hb dX8_says_56 (by decide) ?_
    refine lv_icmp_ne (tgt := 65) hx hb dX8_says_57 (by decide) (fun c11 => ?_) (fun c11 => ?_)
    · have hw := hw.2 c11
      refine lv_bipush (v := (9 : Int32)) hx hb dX8_says_65 (by decide) ?_
      exact mmk_says_67  C0   r8 (0 : Int32) (9 : Int32) σ7 _ _ _ hw hW hS (lv_sub hl [0] rfl)
    · have hw := hw.1 c11
      refine lv_bipush (v := (100 : Int32)) hx hb dX8_says_60 (by decide) ?_
      refine lv_goto (tgt := 67) hx hb dX8_says_62 (by decide) ?_
      exact mmk_says_67  C0   r8 (0 : Int32) (100 : Int32) σ7 _ _ _ hw hW hS (lv_sub hl [0] rfl)
  · have hw := hw.1 c12
    refine lv_bipush (v := (99 : Int32)) hx hb dX8_says_50 (by decide) ?_
    refine lv_goto (tgt := 67) hx hb dX8_says_52 (by decide) ?_
    exact mmk_says_67  C0   r8 (0 : Int32) (99 : Int32) σ7 _ _ _ hw hW hS (lv_sub hl [0] rfl)
theorem cd_X8_keepsOf : yX8_keepsOf.cls = RX8 ∧ yX8_keepsOf.cls ≠ "java/lang/invoke/MethodHandle" ∧ yX8_keepsOf.cls ≠ "java/lang/invoke/VarHandle" ∧ (parseMethodDescriptor yX8_keepsOf.desc).map (fun d => d.parameters.length) = some 1 := by decide +kernel
/-! GleanersForGapsModel.keepsOf(I)I -/
def mmw_keepsOf_38  (Q : Int32 → gg_S → Prop)  (x2 : Int32) (x4 : Int32) (σ : gg_S) : Prop :=
    (((x2 = (2 : Int32)) → Q x4 σ) ∧ (¬ (x2 = (2 : Int32)) → Q (x4 / (2 : Int32)) σ))
def mmw_keepsOf_93  (Q : Int32 → gg_S → Prop)  (s0 : Int32) (σ : gg_S) : Prop :=
    (mmw_within s0 (0 : Int32) (999 : Int32) σ (fun r5 σ4 => Q r5 σ4))
def mmw_keepsOf  (a1 : Int32) (σ : gg_S) (Q : Int32 → gg_S → Prop) : Prop :=
    vp_in a1 5 ∧ vp_in ((2 : Int32) * a1) 10 ∧ vp_in (((2 : Int32) * a1) + (1 : Int32)) 10 ∧ ((((gg_g σ 6 a1.toNatClampNeg) = (2 : Int32)) → mmw_keepsOf_38 Q (gg_g σ 6 a1.toNatClampNeg) (gg_g σ 7 (((2 : Int32) * a1) + (1 : Int32)).toNatClampNeg) σ) ∧ (¬ ((gg_g σ 6 a1.toNatClampNeg) = (2 : Int32)) → ((((gg_g σ 6 a1.toNatClampNeg) = (4 : Int32)) → mmw_keepsOf_38 Q (gg_g σ 6 a1.toNatClampNeg) (gg_g σ 7 (((2 : Int32) * a1) + (1 : Int32)).toNatClampNeg) σ) ∧ (¬ ((gg_g σ 6 a1.toNatClampNeg) = (4 : Int32)) → ((((gg_g σ 6 a1.toNatClampNeg) = (5 : Int32)) → Q (0 : Int32) σ) ∧ (¬ ((gg_g σ 6 a1.toNatClampNeg) = (5 : Int32)) → (mmw_says (1 : Int32) (0 : Int32) (0 : Int32) (gg_g σ 7 ((2 : Int32) * a1).toNatClampNeg) (gg_g σ 7 (((2 : Int32) * a1) + (1 : Int32)).toNatClampNeg) (0 : Int32) σ (fun r3 σ2 => ((((gg_g σ 6 a1.toNatClampNeg) = (3 : Int32)) → mmw_keepsOf_93 Q ((((gg_g σ 7 (((2 : Int32) * a1) + (1 : Int32)).toNatClampNeg) * r3) / (100 : Int32)) - (gg_g σ 7 ((2 : Int32) * a1).toNatClampNeg)) σ2) ∧ (¬ ((gg_g σ 6 a1.toNatClampNeg) = (3 : Int32)) → mmw_keepsOf_93 Q (((gg_g σ 7 (((2 : Int32) * a1) + (1 : Int32)).toNatClampNeg) * r3) / (100 : Int32)) σ2))))))))))
abbrev mmr_keepsOf : Room := { frames := 50, cells := 0, slots := 0, locals := 1152 }
set_option maxHeartbeats 4000000 in
set_option maxRecDepth 100000 in
theorem mmk_keepsOf_38 {p : Program} {l : Launch} {e : Env} {s : State} {m : MethodId} {args : Array Value} {below : List Frame} {meth : Method} {c : Code} {D : va_G} {cl : List vw_C} {E : ClassId × ClassId} {A : Nat → Prop} {ad : Nat → Nat} {Q : Int32 → gg_S → Prop}   (C0 : gg_C p s m args meth c RX8 cX8_keepsOf 6 (some .int))  :
    ∀ (x2 : Int32) (x4 : Int32) (σ : gg_S) (H : Heap) (locs : List Loc) (ls : Array Slot), mmw_keepsOf_38 Q x2 x4 σ → mm_W D cl E A ad σ s H → va_S A s.heap H locs → lv_has ls 6 [(0, .ref (ad 0)), (2, .int x2), (4, .int x4)] → W p l e mmr_keepsOf s m args below meth c H locs 0 0 (MQ below (va_Qi Q (fun u t => mm_W D cl E A ad u t t.heap) A) args s 0 0 A) (F0 m 38 ls []) := by
  obtain ⟨hx, hb, hml, hown, hts, hr, hlocks⟩ := id C0
  intro x2 x4 σ H locs ls hw hW hS hl
  unfold mmw_keepsOf_38 at hw
  refine lv_iload_n hx hb dX8_keepsOf_38 rfl (lv_at hl 1 rfl) ?_
  refine lv_iconst (v := (2 : Int32)) hx hb dX8_keepsOf_39 (by decide) ?_
  refine lv_icmp_ne (tgt := 48) hx hb dX8_keepsOf_40 (by decide) (fun c1 => ?_) (fun c1 => ?_)
  · have hw := hw.2 c1
    refine lv_iload hx hb dX8_keepsOf_48 (lv_at hl 2 rfl) ?_
    refine lv_iconst (v := (2 : Int32)) hx hb dX8_keepsOf_50 (by decide) ?_
    refine lv_idiv hx hb dX8_keepsOf_51 (by decide) ?_
    exact gg_iret (mm_mv D cl E A ad) C0 hW hS hw dX8_keepsOf_52
  · have hw := hw.1 c1
    refine lv_iload hx hb dX8_keepsOf_43 (lv_at hl 2 rfl) ?_
    refine lv_goto (tgt := 52) hx hb dX8_keepsOf_45 (by decide) ?_
    exact gg_iret (mm_mv D cl E A ad) C0 hW hS hw dX8_keepsOf_52
set_option maxHeartbeats 4000000 in
set_option maxRecDepth 100000 in
theorem mmk_keepsOf_93 {p : Program} {l : Launch} {e : Env} {s : State} {m : MethodId} {args : Array Value} {below : List Frame} {meth : Method} {c : Code} {D : va_G} {cl : List vw_C} {E : ClassId × ClassId} {A : Nat → Prop} {ad : Nat → Nat} {Q : Int32 → gg_S → Prop}   (C0 : gg_C p s m args meth c RX8 cX8_keepsOf 6 (some .int))  :
    ∀ (s0 : Int32) (σ : gg_S) (H : Heap) (locs : List Loc) (ls : Array Slot), mmw_keepsOf_93 Q s0 σ → mm_W D cl E A ad σ s H → va_S A s.heap H locs → lv_has ls 6 [(0, .ref (ad 0))] → W p l e mmr_keepsOf s m args below meth c H locs 0 0 (MQ below (va_Qi Q (fun u t => mm_W D cl E A ad u t t.heap) A) args s 0 0 A) (F0 m 93 ls [.int s0]) := by
  obtain ⟨hx, hb, hml, hown, hts, hr, hlocks⟩ := id C0
  intro s0 σ H locs ls hw hW hS hl
  unfold mmw_keepsOf_93 at hw
  refine lv_iconst (v := (0 : Int32)) hx hb dX8_keepsOf_93 (by decide) ?_
  refine lv_sipush (v := (999 : Int32)) hx hb dX8_keepsOf_94 (by decide) ?_
  refine mm_SI ⟨hx, hb, hml, hown, hts⟩ (mmt_within l _ _ _ _ hw) (va_cwS 3 hts (lw_S q1528 q1529 q120 q1530) rfl rfl rfl cd_X8_within.2 ⟨Nat.le_of_ble_eq_true rfl, Nat.le_of_ble_eq_true rfl⟩) hW hS rfl hl.1 rfl (Nat.le_of_ble_eq_true rfl) dX8_keepsOf_97 (fun r5 σ4 H locs hw hW hS => ?_)
  exact gg_iret (mm_mv D cl E A ad) C0 hW hS hw dX8_keepsOf_100
set_option maxHeartbeats 4000000 in
set_option maxRecDepth 100000 in
theorem mmt_keepsOf (l : Launch) {D : va_G} {cl : List vw_C} {E : ClassId × ClassId} {A : Nat → Prop} {ad : Nat → Nat}  (a1 : Int32) (σ : gg_S) {Q : Int32 → gg_S → Prop} (hw : mmw_keepsOf a1 σ Q) :
    Met l yX8_keepsOf (ws_ yX8_keepsOf cX8_keepsOf 6 (some .int)) mmr_keepsOf (va_Pc [.ref (ad 0), .int a1] (fun U => mm_W D cl E A ad σ U U.heap)) (va_Qi Q (fun u t => mm_W D cl E A ad u t t.heap) A) 0 0 A := by
  refine gg_entry (W0 := fun s H => mm_W D cl E A ad σ s H) (by decide) (Nat.le_of_ble_eq_true rfl) ?_
  intro p e s m args below meth c C0 hW ls hl
  have C0 : gg_C p s m args meth c RX8 cX8_keepsOf 6 (some .int) := C0
  obtain ⟨hx, hb, hml, hown, hts, hr, hlocks⟩ := id C0
  have hl : lv_has ls 6 [(0, .ref (ad 0)), (1, .int a1)] := hl
  have hS : va_S A s.heap s.heap [] := va_S.rf
  unfold mmw_keepsOf at hw
  refine lv_aload_n hx hb dX8_keepsOf_0 rfl (lv_at hl 0 rfl) ?_
  refine mm_getr hx hb hts hown hW 10 6 (by decide) q1281 dX8_keepsOf_1 ?_
  refine lv_iload_n hx hb dX8_keepsOf_4 rfl (lv_at hl 1 rfl) ?_
  obtain ⟨hin, hw⟩ := hw
  refine mm_ald hx hb hW 5 (by decide) hin dX8_keepsOf_5 ?_
  refine lv_istore_n (lv' := [(2, .int (gg_g σ 6 a1.toNatClampNeg)), (0, .ref (ad 0)), (1, .int a1)]) hx hb dX8_keepsOf_6 rfl hl (by decide) rfl (fun ls hl => ?_)
  refine lv_aload_n hx hb dX8_keepsOf_7 rfl (lv_at hl 1 rfl) ?_
  refine mm_getr hx hb hts hown hW 11 7 (by decide) q1282 dX8_keepsOf_8 ?_
  refine lv_iconst (v := (2 : Int32)) hx hb dX8_keepsOf_11 (by decide) ?_
  refine lv_iload_n hx hb dX8_keepsOf_12 rfl (lv_at hl 2 rfl) ?_
  refine lv_imul hx hb dX8_keepsOf_13 ?_
  obtain ⟨hin, hw⟩ := hw
  refine mm_ald hx hb hW 6 (by decide) hin dX8_keepsOf_14 ?_
  refine lv_istore_n (lv' := [(3, .int (gg_g σ 7 ((2 : Int32) * a1).toNatClampNeg)), (2, .int (gg_g σ 6 a1.toNatClampNeg)), (0, .ref (ad 0)), (1, .int a1)]) hx hb dX8_keepsOf_15 rfl hl (by decide) rfl (fun ls hl => ?_)
  refine lv_aload_n hx hb dX8_keepsOf_16 rfl (lv_at hl 2 rfl) ?_
  refine mm_getr hx hb hts hown hW 11 7 (by decide) q1282 dX8_keepsOf_17 ?_
  refine lv_iconst (v := (2 : Int32)) hx hb dX8_keepsOf_20 (by decide) ?_
  refine lv_iload_n hx hb dX8_keepsOf_21 rfl (lv_at hl 3 rfl) ?_
  refine lv_imul hx hb dX8_keepsOf_22 ?_
  refine lv_iconst (v := (1 : Int32)) hx hb dX8_keepsOf_23 (by decide) ?_
  refine lv_iadd hx hb dX8_keepsOf_24 ?_
  obtain ⟨hin, hw⟩ := hw
  refine mm_ald hx hb hW 6 (by decide) hin dX8_keepsOf_25 ?_
  refine lv_istore (lv' := [(4, .int (gg_g σ 7 (((2 : Int32) * a1) + (1 : Int32)).toNatClampNeg)), (3, .int (gg_g σ 7 ((2 : Int32) * a1).toNatClampNeg)), (2, .int (gg_g σ 6 a1.toNatClampNeg)), (0, .ref (ad 0)), (1, .int a1)]) hx hb dX8_keepsOf_26 hl (by decide) rfl (fun ls hl => ?_)
  refine lv_iload_n hx hb dX8_keepsOf_28 rfl (lv_at hl 2 rfl) ?_
  refine lv_iconst (v := (2 : Int32)) hx hb dX8_keepsOf_29 (by decide) ?_
  refine lv_icmp_eq (tgt := 38) hx hb dX8_keepsOf_30 (by decide) (fun c9 => ?_) (fun c9 => ?_)
  · have hw := hw.1 c9
    exact mmk_keepsOf_38  C0   (gg_g σ 6 a1.toNatClampNeg) (gg_g σ 7 (((2 : Int32) * a1) + (1 : Int32)).toNatClampNeg) σ _ _ _ hw hW hS (lv_sub hl [3, 2, 0] rfl)
  · have hw := hw.2 c9
    refine lv_iload_n hx hb dX8_keepsOf_33 rfl (lv_at hl 2 rfl) ?_
    refine lv_iconst (v := (4 : Int32)) hx hb dX8_keepsOf_34 (by decide) ?_
    refine lv_icmp_ne (tgt := 53) hx hb dX8_keepsOf_35 (by decide) (fun c8 => ?_) (fun c8 => ?_)
    · have hw := hw.2 c8
      refine lv_iload_n hx hb dX8_keepsOf_53 rfl (lv_at hl 2 rfl) ?_
      refine lv_iconst (v := (5 : Int32)) hx hb dX8_keepsOf_54 (by decide) ?_
      refine lv_icmp_ne (tgt := 60) hx hb dX8_keepsOf_55 (by decide) (fun c7 => ?_) (fun c7 => ?_)
      · have hw := hw.2 c7
        refine lv_iload hx hb dX8_keepsOf_60 (lv_at hl 0 rfl) ?_
        refine lv_aload_n hx hb dX8_keepsOf_62 rfl (lv_at hl 3 rfl) ?_
        refine lv_iconst (v := (1 : Int32)) hx hb dX8_keepsOf_63 (by decide) ?_
        refine lv_iconst (v := (0 : Int32)) hx hb dX8_keepsOf_64 (by decide) ?_
        refine lv_iconst (v := (0 : Int32)) hx hb dX8_keepsOf_65 (by decide) ?_
        refine lv_iload_n hx hb dX8_keepsOf_66 rfl (lv_at hl 1 rfl) ?_
        refine lv_iload hx hb dX8_keepsOf_67 (lv_at hl 0 rfl) ?_
        refine lv_iconst (v := (0 : Int32)) hx hb dX8_keepsOf_69 (by decide) ?_
        refine mm_VI ⟨hx, hb, hml, hown, hts⟩ (mmt_says l _ _ _ _ _ _ _ hw) (cwV 6 hts (lw_V q1454 q1456 qs63 q120 q1457) rfl rfl rfl cd_X8_says ⟨Nat.le_of_ble_eq_true rfl, Nat.le_of_ble_eq_true rfl⟩) hW (mm_recv hW) hS rfl hl.1 rfl (Nat.le_of_ble_eq_true rfl) dX8_keepsOf_70 (fun r3 σ2 H locs hw hW hS => ?_)
        refine lv_imul hx hb dX8_keepsOf_73 ?_
        refine lv_bipush (v := (100 : Int32)) hx hb dX8_keepsOf_74 (by decide) ?_
        refine lv_idiv hx hb dX8_keepsOf_76 (by decide) ?_
        refine lv_istore (lv' := [(5, .int (((gg_g σ 7 (((2 : Int32) * a1) + (1 : Int32)).toNatClampNeg) * r3) / (100 : Int32))), (4, .int (gg_g σ 7 (((2 : Int32) * a1) + (1 : Int32)).toNatClampNeg)), (3, .int (gg_g σ 7 ((2 : Int32) * a1).toNatClampNeg)), (2, .int (gg_g σ 6 a1.toNatClampNeg)), (0, .ref (ad 0)), (1, .int a1)]) hx hb dX8_keepsOf_77 hl (by decide) rfl (fun ls hl => ?_)
        refine lv_iload_n hx hb dX8_keepsOf_79 rfl (lv_at hl 3 rfl) ?_
        refine lv_iconst (v := (3 : Int32)) hx hb dX8_keepsOf_80 (by decide) ?_
        refine lv_icmp_ne (tgt := 91) hx hb dX8_keepsOf_81 (by decide) (fun c6 => ?_) (fun c6 => ?_)
        · have hw := hw.2 c6
          refine lv_iload hx hb dX8_keepsOf_91 (lv_at hl 0 rfl) ?_
          exact mmk_keepsOf_93  C0   (((gg_g σ 7 (((2 : Int32) * a1) + (1 : Int32)).toNatClampNeg) * r3) / (100 : Int32)) σ2 _ _ _ hw hW hS (lv_sub hl [4] rfl)
        · have hw := hw.1 c6
          refine lv_iload hx hb dX8_keepsOf_84 (lv_at hl 0 rfl) ?_
          refine lv_iload_n hx hb dX8_keepsOf_86 rfl (lv_at hl 2 rfl) ?_
          refine lv_isub hx hb dX8_keepsOf_87 ?_
          refine lv_goto (tgt := 93) hx hb dX8_keepsOf_88 (by decide) ?_
          exact mmk_keepsOf_93  C0   ((((gg_g σ 7 (((2 : Int32) * a1) + (1 : Int32)).toNatClampNeg) * r3) / (100 : Int32)) - (gg_g σ 7 ((2 : Int32) * a1).toNatClampNeg)) σ2 _ _ _ hw hW hS (lv_sub hl [4] rfl)
      · have hw := hw.1 c7
        refine lv_iconst (v := (0 : Int32)) hx hb dX8_keepsOf_58 (by decide) ?_
        exact gg_iret (mm_mv D cl E A ad) C0 hW hS hw dX8_keepsOf_59
    · have hw := hw.1 c8
      exact mmk_keepsOf_38  C0   (gg_g σ 6 a1.toNatClampNeg) (gg_g σ 7 (((2 : Int32) * a1) + (1 : Int32)).toNatClampNeg) σ _ _ _ hw hW hS (lv_sub hl [3, 2, 0] rfl)
theorem cd_X8_shakenOf : yX8_shakenOf.cls = RX8 ∧ yX8_shakenOf.cls ≠ "java/lang/invoke/MethodHandle" ∧ yX8_shakenOf.cls ≠ "java/lang/invoke/VarHandle" ∧ (parseMethodDescriptor yX8_shakenOf.desc).map (fun d => d.parameters.length) = some 1 := by decide +kernel
/-! GleanersForGapsModel.shakenOf(I)I -/
def mmw_shakenOf  (a1 : Int32) (σ : gg_S) (Q : Int32 → gg_S → Prop) : Prop :=
    (mmw_leftOf a1 σ (fun r2 σ1 => (mmw_says (2 : Int32) r2 (0 : Int32) (0 : Int32) (0 : Int32) a1 σ1 (fun r4 σ3 => Q r4 σ3))))
abbrev mmr_shakenOf : Room := { frames := 50, cells := 0, slots := 0, locals := 1152 }
set_option maxHeartbeats 4000000 in
set_option maxRecDepth 100000 in
theorem mmt_shakenOf (l : Launch) {D : va_G} {cl : List vw_C} {E : ClassId × ClassId} {A : Nat → Prop} {ad : Nat → Nat}  (a1 : Int32) (σ : gg_S) {Q : Int32 → gg_S → Prop} (hw : mmw_shakenOf a1 σ Q) :
    Met l yX8_shakenOf (ws_ yX8_shakenOf cX8_shakenOf 2 (some .int)) mmr_shakenOf (va_Pc [.ref (ad 0), .int a1] (fun U => mm_W D cl E A ad σ U U.heap)) (va_Qi Q (fun u t => mm_W D cl E A ad u t t.heap) A) 0 0 A := by
  refine gg_entry (W0 := fun s H => mm_W D cl E A ad σ s H) (by decide) (Nat.le_of_ble_eq_true rfl) ?_
  intro p e s m args below meth c C0 hW ls hl
  have C0 : gg_C p s m args meth c RX8 cX8_shakenOf 2 (some .int) := C0
  obtain ⟨hx, hb, hml, hown, hts, hr, hlocks⟩ := id C0
  have hl : lv_has ls 2 [(0, .ref (ad 0)), (1, .int a1)] := hl
  have hS : va_S A s.heap s.heap [] := va_S.rf
  unfold mmw_shakenOf at hw
  refine lv_aload_n hx hb dX8_shakenOf_0 rfl (lv_at hl 0 rfl) ?_
  refine lv_iconst (v := (2 : Int32)) hx hb dX8_shakenOf_1 (by decide) ?_
  refine lv_aload_n hx hb dX8_shakenOf_2 rfl (lv_at hl 0 rfl) ?_
  refine lv_iload_n hx hb dX8_shakenOf_3 rfl (lv_at hl 1 rfl) ?_
  refine mm_VI ⟨hx, hb, hml, hown, hts⟩ (mmt_leftOf l _ _ hw) (cwV 1 hts (lw_V q1426 q1428 qs60 q120 q1429) rfl rfl rfl cd_X8_leftOf ⟨Nat.le_of_ble_eq_true rfl, Nat.le_of_ble_eq_true rfl⟩) hW (mm_recv hW) hS rfl hl.1 rfl (Nat.le_of_ble_eq_true rfl) dX8_shakenOf_4 (fun r2 σ1 H locs hw hW hS => ?_)
  refine lv_iconst (v := (0 : Int32)) hx hb dX8_shakenOf_7 (by decide) ?_
  refine lv_iconst (v := (0 : Int32)) hx hb dX8_shakenOf_8 (by decide) ?_
  refine lv_iconst (v := (0 : Int32)) hx hb dX8_shakenOf_9 (by decide) ?_
  refine lv_iload_n hx hb dX8_shakenOf_10 rfl (lv_at hl 1 rfl) ?_
  refine mm_VI ⟨hx, hb, hml, hown, hts⟩ (mmt_says l _ _ _ _ _ _ _ hw) (cwV 6 hts (lw_V q1454 q1456 qs63 q120 q1457) rfl rfl rfl cd_X8_says ⟨Nat.le_of_ble_eq_true rfl, Nat.le_of_ble_eq_true rfl⟩) hW (mm_recv hW) hS rfl hl.1 rfl (Nat.le_of_ble_eq_true rfl) dX8_shakenOf_11 (fun r4 σ3 H locs hw hW hS => ?_)
  exact gg_iret (mm_mv D cl E A ad) C0 hW hS hw dX8_shakenOf_14
theorem cd_X8_told : yX8_told.cls = RX8 ∧ yX8_told.cls ≠ "java/lang/invoke/MethodHandle" ∧ yX8_told.cls ≠ "java/lang/invoke/VarHandle" ∧ (parseMethodDescriptor yX8_told.desc).map (fun d => d.parameters.length) = some 2 := by decide +kernel
/-! GleanersForGapsModel.told(II)I -/
def mmw_told_42  (Q : Int32 → gg_S → Prop)  (x1 : Int32) (x2 : Int32) (σ : gg_S) : Prop :=
    ((((5 : Int32) ≤ x2) → ((((8 : Int32) ≤ x2) → (((x2 = (8 : Int32)) → (mmw_runsOf x1 σ (fun r9 σ8 => Q r9 σ8))) ∧ (¬ (x2 = (8 : Int32)) → (((x2 = (9 : Int32)) → (mmw_greatestOf x1 σ (fun r6 σ5 => Q r6 σ5))) ∧ (¬ (x2 = (9 : Int32)) → (mmw_shakenOf x1 σ (fun r4 σ3 => Q r4 σ3))))))) ∧ (¬ ((8 : Int32) ≤ x2) → (((x2 = (5 : Int32)) → vp_in x1 5 ∧ Q (gg_g σ 5 x1.toNatClampNeg) σ) ∧ (¬ (x2 = (5 : Int32)) → (((x2 = (6 : Int32)) → vp_in x1 5 ∧ Q (gg_g σ 4 x1.toNatClampNeg) σ) ∧ (¬ (x2 = (6 : Int32)) → (mmw_leftOf x1 σ (fun r12 σ11 => Q r12 σ11))))))))) ∧ (¬ ((5 : Int32) ≤ x2) → (((x2 = 0) → Q (gg_g σ 0 7) σ) ∧ (¬ (x2 = 0) → ((((3 : Int32) ≤ x2) → (((x2 = (3 : Int32)) → vp_in x1 5 ∧ Q (gg_g σ 6 x1.toNatClampNeg) σ) ∧ (¬ (x2 = (3 : Int32)) → (mmw_keepsOf x1 σ (fun r17 σ16 => Q r17 σ16))))) ∧ (¬ ((3 : Int32) ≤ x2) → vp_in ((((2 : Int32) * x1) + x2) - (1 : Int32)) 10 ∧ Q (gg_g σ 7 ((((2 : Int32) * x1) + x2) - (1 : Int32)).toNatClampNeg) σ))))))
def mmw_told  (a1 : Int32) (a2 : Int32) (σ : gg_S) (Q : Int32 → gg_S → Prop) : Prop :=
    (mmw_in ((a2).toInt64) (0 : Int64) (10 : Int64) σ (fun r2 σ1 => (((r2 = 0) → Q (-2 : Int32) σ1) ∧ (¬ (r2 = 0) → (((a2 ≤ 0) → mmw_told_42 Q a1 a2 σ1) ∧ (¬ (a2 ≤ 0) → ((((5 : Int32) ≤ a2) → (mmw_isRow a1 σ1 (fun r23 σ22 => (((r23 = 0) → Q (-2 : Int32) σ22) ∧ (¬ (r23 = 0) → mmw_told_42 Q a1 a2 σ22))))) ∧ (¬ ((5 : Int32) ≤ a2) → (mmw_isOne a1 σ1 (fun r26 σ25 => (((r26 = 0) → Q (-2 : Int32) σ25) ∧ (¬ (r26 = 0) → mmw_told_42 Q a1 a2 σ25))))))))))))
abbrev mmr_told : Room := { frames := 51, cells := 0, slots := 0, locals := 1177 }
set_option maxHeartbeats 4000000 in
set_option maxRecDepth 100000 in
theorem mmk_told_42 {p : Program} {l : Launch} {e : Env} {s : State} {m : MethodId} {args : Array Value} {below : List Frame} {meth : Method} {c : Code} {D : va_G} {cl : List vw_C} {E : ClassId × ClassId} {A : Nat → Prop} {ad : Nat → Nat} {Q : Int32 → gg_S → Prop}   (C0 : gg_C p s m args meth c RX8 cX8_told 3 (some .int))  :
    ∀ (x1 : Int32) (x2 : Int32) (σ : gg_S) (H : Heap) (locs : List Loc) (ls : Array Slot), mmw_told_42 Q x1 x2 σ → mm_W D cl E A ad σ s H → va_S A s.heap H locs → lv_has ls 3 [(0, .ref (ad 0)), (1, .int x1), (2, .int x2)] → W p l e mmr_told s m args below meth c H locs 0 0 (MQ below (va_Qi Q (fun u t => mm_W D cl E A ad u t t.heap) A) args s 0 0 A) (F0 m 42 ls []) := by
  obtain ⟨hx, hb, hml, hown, hts, hr, hlocks⟩ := id C0
  intro x1 x2 σ H locs ls hw hW hS hl
  unfold mmw_told_42 at hw
  refine lv_iload_n hx hb dX8_told_42 rfl (lv_at hl 2 rfl) ?_
  refine lv_iconst (v := (5 : Int32)) hx hb dX8_told_43 (by decide) ?_
  refine lv_icmp_ge (tgt := 98) hx hb dX8_told_44 (by decide) (fun c21 => ?_) (fun c21 => ?_)
  · have hw := hw.1 c21
    refine lv_iload_n hx hb dX8_told_98 rfl (lv_at hl 2 rfl) ?_
    refine lv_bipush (v := (8 : Int32)) hx hb dX8_told_99 (by decide) ?_
    refine lv_icmp_ge (tgt := 139) hx hb dX8_told_101 (by decide) (fun c15 => ?_) (fun c15 => ?_)
    · have hw := hw.1 c15
      refine lv_iload_n hx hb dX8_told_139 rfl (lv_at hl 2 rfl) ?_
      refine lv_bipush (v := (8 : Int32)) hx hb dX8_told_140 (by decide) ?_
      refine lv_icmp_ne (tgt := 153) hx hb dX8_told_142 (by decide) (fun c10 => ?_) (fun c10 => ?_)
      · have hw := hw.2 c10
        refine lv_iload_n hx hb dX8_told_153 rfl (lv_at hl 2 rfl) ?_
        refine lv_bipush (v := (9 : Int32)) hx hb dX8_told_154 (by decide) ?_
        refine lv_icmp_ne (tgt := 167) hx hb dX8_told_156 (by decide) (fun c7 => ?_) (fun c7 => ?_)
        · have hw := hw.2 c7
          refine lv_aload_n hx hb dX8_told_167 rfl (lv_at hl 0 rfl) ?_
          refine lv_iload_n hx hb dX8_told_168 rfl (lv_at hl 1 rfl) ?_
          refine mm_VI ⟨hx, hb, hml, hown, hts⟩ (mmt_shakenOf l _ _ hw) (cwV 1 hts (lw_V q1543 q1545 qs83 q120 q1546) rfl rfl rfl cd_X8_shakenOf ⟨Nat.le_of_ble_eq_true rfl, Nat.le_of_ble_eq_true rfl⟩) hW (mm_recv hW) hS rfl hl.1 rfl (Nat.le_of_ble_eq_true rfl) dX8_told_169 (fun r4 σ3 H locs hw hW hS => ?_)
          exact gg_iret (mm_mv D cl E A ad) C0 hW hS hw dX8_told_172
        · have hw := hw.1 c7
          refine lv_aload_n hx hb dX8_told_159 rfl (lv_at hl 0 rfl) ?_
          refine lv_iload_n hx hb dX8_told_160 rfl (lv_at hl 1 rfl) ?_
          refine mm_VI ⟨hx, hb, hml, hown, hts⟩ (mmt_greatestOf l _ _ hw) (cwV 1 hts (lw_V q1539 q1541 qs82 q120 q1542) rfl rfl rfl cd_X8_greatestOf ⟨Nat.le_of_ble_eq_true rfl, Nat.le_of_ble_eq_true rfl⟩) hW (mm_recv hW) hS rfl hl.1 rfl (Nat.le_of_ble_eq_true rfl) dX8_told_161 (fun r6 σ5 H locs hw hW hS => ?_)
          refine lv_goto (tgt := 172) hx hb dX8_told_164 (by decide) ?_
          exact gg_iret (mm_mv D cl E A ad) C0 hW hS hw dX8_told_172
      · have hw := hw.1 c10
        refine lv_aload_n hx hb dX8_told_145 rfl (lv_at hl 0 rfl) ?_
        refine lv_iload_n hx hb dX8_told_146 rfl (lv_at hl 1 rfl) ?_
        refine mm_VI ⟨hx, hb, hml, hown, hts⟩ (mmt_runsOf l _ _ hw) (cwV 1 hts (lw_V q1531 q1533 qs80 q120 q1534) rfl rfl rfl cd_X8_runsOf ⟨Nat.le_of_ble_eq_true rfl, Nat.le_of_ble_eq_true rfl⟩) hW (mm_recv hW) hS rfl hl.1 rfl (Nat.le_of_ble_eq_true rfl) dX8_told_147 (fun r9 σ8 H locs hw hW hS => ?_)
        refine lv_goto (tgt := 172) hx hb dX8_told_150 (by decide) ?_
        exact gg_iret (mm_mv D cl E A ad) C0 hW hS hw dX8_told_172
    · have hw := hw.2 c15
      refine lv_iload_n hx hb dX8_told_104 rfl (lv_at hl 2 rfl) ?_
      refine lv_iconst (v := (5 : Int32)) hx hb dX8_told_105 (by decide) ?_
      refine lv_icmp_ne (tgt := 118) hx hb dX8_told_106 (by decide) (fun c14 => ?_) (fun c14 => ?_)
      · have hw := hw.2 c14
        refine lv_iload_n hx hb dX8_told_118 rfl (lv_at hl 2 rfl) ?_
        refine lv_bipush (v := (6 : Int32)) hx hb dX8_told_119 (by decide) ?_
        refine lv_icmp_ne (tgt := 133) hx hb dX8_told_121 (by decide) (fun c13 => ?_) (fun c13 => ?_)
        · have hw := hw.2 c13
          refine lv_aload_n hx hb dX8_told_133 rfl (lv_at hl 0 rfl) ?_
          refine lv_iload_n hx hb dX8_told_134 rfl (lv_at hl 1 rfl) ?_
          refine mm_VI ⟨hx, hb, hml, hown, hts⟩ (mmt_leftOf l _ _ hw) (cwV 1 hts (lw_V q1426 q1428 qs60 q120 q1429) rfl rfl rfl cd_X8_leftOf ⟨Nat.le_of_ble_eq_true rfl, Nat.le_of_ble_eq_true rfl⟩) hW (mm_recv hW) hS rfl hl.1 rfl (Nat.le_of_ble_eq_true rfl) dX8_told_135 (fun r12 σ11 H locs hw hW hS => ?_)
          exact gg_iret (mm_mv D cl E A ad) C0 hW hS hw dX8_told_138
        · have hw := hw.1 c13
          refine lv_aload_n hx hb dX8_told_124 rfl (lv_at hl 0 rfl) ?_
          refine mm_getr hx hb hts hown hW 8 4 (by decide) q1279 dX8_told_125 ?_
          refine lv_iload_n hx hb dX8_told_128 rfl (lv_at hl 1 rfl) ?_
          obtain ⟨hin, hw⟩ := hw
          refine mm_ald hx hb hW 3 (by decide) hin dX8_told_129 ?_
          refine lv_goto (tgt := 138) hx hb dX8_told_130 (by decide) ?_
          exact gg_iret (mm_mv D cl E A ad) C0 hW hS hw dX8_told_138
      · have hw := hw.1 c14
        refine lv_aload_n hx hb dX8_told_109 rfl (lv_at hl 0 rfl) ?_
        refine mm_getr hx hb hts hown hW 9 5 (by decide) q1280 dX8_told_110 ?_
        refine lv_iload_n hx hb dX8_told_113 rfl (lv_at hl 1 rfl) ?_
        obtain ⟨hin, hw⟩ := hw
        refine mm_ald hx hb hW 4 (by decide) hin dX8_told_114 ?_
        refine lv_goto (tgt := 138) hx hb dX8_told_115 (by decide) ?_
        exact gg_iret (mm_mv D cl E A ad) C0 hW hS hw dX8_told_138
  · have hw := hw.2 c21
    refine lv_iload_n hx hb dX8_told_47 rfl (lv_at hl 2 rfl) ?_
    refine lv_if_ne (tgt := 58) hx hb dX8_told_48 (by decide) (fun c20 => ?_) (fun c20 => ?_)
    · have hw := hw.2 c20
      refine lv_iload_n hx hb dX8_told_58 rfl (lv_at hl 2 rfl) ?_
      refine lv_iconst (v := (3 : Int32)) hx hb dX8_told_59 (by decide) ?_
      refine lv_icmp_ge (tgt := 78) hx hb dX8_told_60 (by decide) (fun c19 => ?_) (fun c19 => ?_)
      · have hw := hw.1 c19
        refine lv_iload_n hx hb dX8_told_78 rfl (lv_at hl 2 rfl) ?_
        refine lv_iconst (v := (3 : Int32)) hx hb dX8_told_79 (by decide) ?_
        refine lv_icmp_ne (tgt := 92) hx hb dX8_told_80 (by decide) (fun c18 => ?_) (fun c18 => ?_)
        · have hw := hw.2 c18
          refine lv_aload_n hx hb dX8_told_92 rfl (lv_at hl 0 rfl) ?_
          refine lv_iload_n hx hb dX8_told_93 rfl (lv_at hl 1 rfl) ?_
          refine mm_VI ⟨hx, hb, hml, hown, hts⟩ (mmt_keepsOf l _ _ hw) (cwV 1 hts (lw_V q1450 q1452 qs62 q120 q1453) rfl rfl rfl cd_X8_keepsOf ⟨Nat.le_of_ble_eq_true rfl, Nat.le_of_ble_eq_true rfl⟩) hW (mm_recv hW) hS rfl hl.1 rfl (Nat.le_of_ble_eq_true rfl) dX8_told_94 (fun r17 σ16 H locs hw hW hS => ?_)
          exact gg_iret (mm_mv D cl E A ad) C0 hW hS hw dX8_told_97
        · have hw := hw.1 c18
          refine lv_aload_n hx hb dX8_told_83 rfl (lv_at hl 0 rfl) ?_
          refine mm_getr hx hb hts hown hW 10 6 (by decide) q1281 dX8_told_84 ?_
          refine lv_iload_n hx hb dX8_told_87 rfl (lv_at hl 1 rfl) ?_
          obtain ⟨hin, hw⟩ := hw
          refine mm_ald hx hb hW 5 (by decide) hin dX8_told_88 ?_
          refine lv_goto (tgt := 97) hx hb dX8_told_89 (by decide) ?_
          exact gg_iret (mm_mv D cl E A ad) C0 hW hS hw dX8_told_97
      · have hw := hw.2 c19
        refine lv_aload_n hx hb dX8_told_63 rfl (lv_at hl 0 rfl) ?_
        refine mm_getr hx hb hts hown hW 11 7 (by decide) q1282 dX8_told_64 ?_
        refine lv_iconst (v := (2 : Int32)) hx hb dX8_told_67 (by decide) ?_
        refine lv_iload_n hx hb dX8_told_68 rfl (lv_at hl 1 rfl) ?_
        refine lv_imul hx hb dX8_told_69 ?_
        refine lv_iload_n hx hb dX8_told_70 rfl (lv_at hl 2 rfl) ?_
        refine lv_iadd hx hb dX8_told_71 ?_
        refine lv_iconst (v := (1 : Int32)) hx hb dX8_told_72 (by decide) ?_
        refine lv_isub hx hb dX8_told_73 ?_
        obtain ⟨hin, hw⟩ := hw
        refine mm_ald hx hb hW 6 (by decide) hin dX8_told_74 ?_
        refine lv_goto (tgt := 97) hx hb dX8_told_75 (by decide) ?_
        exact gg_iret (mm_mv D cl E A ad) C0 hW hS hw dX8_told_97
    · have hw := hw.1 c20
      refine lv_aload_n hx hb dX8_told_51 rfl (lv_at hl 0 rfl) ?_
      refine mm_geti hx hb hts hown hW 7 (by decide) q1278 dX8_told_52 ?_
      refine lv_goto (tgt := 97) hx hb dX8_told_55 (by decide) ?_
      exact gg_iret (mm_mv D cl E A ad) C0 hW hS hw dX8_told_97
set_option maxHeartbeats 4000000 in
set_option maxRecDepth 100000 in
theorem mmt_told (l : Launch) {D : va_G} {cl : List vw_C} {E : ClassId × ClassId} {A : Nat → Prop} {ad : Nat → Nat}  (a1 : Int32) (a2 : Int32) (σ : gg_S) {Q : Int32 → gg_S → Prop} (hw : mmw_told a1 a2 σ Q) :
    Met l yX8_told (ws_ yX8_told cX8_told 3 (some .int)) mmr_told (va_Pc [.ref (ad 0), .int a1, .int a2] (fun U => mm_W D cl E A ad σ U U.heap)) (va_Qi Q (fun u t => mm_W D cl E A ad u t t.heap) A) 0 0 A := by
  refine gg_entry (W0 := fun s H => mm_W D cl E A ad σ s H) (by decide) (Nat.le_of_ble_eq_true rfl) ?_
  intro p e s m args below meth c C0 hW ls hl
  have C0 : gg_C p s m args meth c RX8 cX8_told 3 (some .int) := C0
  obtain ⟨hx, hb, hml, hown, hts, hr, hlocks⟩ := id C0
  have hl : lv_has ls 3 [(0, .ref (ad 0)), (1, .int a1), (2, .int a2)] := hl
  have hS : va_S A s.heap s.heap [] := va_S.rf
  unfold mmw_told at hw
  refine lv_iload_n hx hb dX8_told_0 rfl (lv_at hl 2 rfl) ?_
  refine lv_i2l (v := (a2).toInt64) hx hb dX8_told_1 rfl ?_
  refine lv_lconst (v := (0 : Int64)) hx hb dX8_told_2 (by decide) ?_
  refine lv_ldc2 (own := RX8) (v := (10 : Int64)) hx hb hown (hts _ q1449) dX8_told_3 ?_
  refine mm_SI ⟨hx, hb, hml, hown, hts⟩ (mmt_in l _ _ _ _ hw) (va_cwS 3 hts (lw_S q1422 q1423 q120 q1424) rfl rfl rfl cd_X8_in.2 ⟨Nat.le_of_ble_eq_true rfl, Nat.le_of_ble_eq_true rfl⟩) hW hS rfl hl.1 rfl (Nat.le_of_ble_eq_true rfl) dX8_told_6 (fun r2 σ1 H locs hw hW hS => ?_)
  obtain ⟨hz_r2, hw⟩ := hw
  refine lv_if_eq (tgt := 39) hx hb dX8_told_9 (by decide) (fun c30 => ?_) (fun c30 => ?_)
  · have hw := hw.1 c30
    refine lv_bipush (v := (-2 : Int32)) hx hb dX8_told_39 (by decide) ?_
    exact gg_iret (mm_mv D cl E A ad) C0 hW hS hw dX8_told_41
  · have hw := hw.2 c30
    refine lv_iload_n hx hb dX8_told_12 rfl (lv_at hl 2 rfl) ?_
    refine lv_if_le (tgt := 42) hx hb dX8_told_13 (by decide) (fun c29 => ?_) (fun c29 => ?_)
    · have hw := hw.1 c29
      exact mmk_told_42  C0   a1 a2 σ1 _ _ _ hw hW hS (hl)
    · have hw := hw.2 c29
      refine lv_iload_n hx hb dX8_told_16 rfl (lv_at hl 2 rfl) ?_
      refine lv_iconst (v := (5 : Int32)) hx hb dX8_told_17 (by decide) ?_
      refine lv_icmp_ge (tgt := 32) hx hb dX8_told_18 (by decide) (fun c28 => ?_) (fun c28 => ?_)
      · have hw := hw.1 c28
        refine lv_iload_n hx hb dX8_told_32 rfl (lv_at hl 1 rfl) ?_
        refine mm_SI ⟨hx, hb, hml, hown, hts⟩ (mmt_isRow l _ _ hw) (va_cwS 1 hts (lw_S q1418 q1419 q120 q1420) rfl rfl rfl cd_X8_isRow.2 ⟨Nat.le_of_ble_eq_true rfl, Nat.le_of_ble_eq_true rfl⟩) hW hS rfl hl.1 rfl (Nat.le_of_ble_eq_true rfl) dX8_told_33 (fun r23 σ22 H locs hw hW hS => ?_)
        obtain ⟨hz_r23, hw⟩ := hw
        refine lv_if_ne (tgt := 42) hx hb dX8_told_36 (by decide) (fun c24 => ?_) (fun c24 => ?_)
        · have hw := hw.2 c24
          exact mmk_told_42  C0   a1 a2 σ22 _ _ _ hw hW hS (hl)
        · have hw := hw.1 c24
          refine lv_bipush (v := (-2 : Int32)) hx hb dX8_told_39 (by decide) ?_
          exact gg_iret (mm_mv D cl E A ad) C0 hW hS hw dX8_told_41
      · have hw := hw.2 c28
        refine lv_aload_n hx hb dX8_told_21 rfl (lv_at hl 0 rfl) ?_
        refine lv_iload_n hx hb dX8_told_22 rfl (lv_at hl 1 rfl) ?_
        refine mm_VI ⟨hx, hb, hml, hown, hts⟩ (mmt_isOne l _ _ hw) (cwV 1 hts (lw_V q1438 q1440 qs61 q120 q1441) rfl rfl rfl cd_X8_isOne ⟨Nat.le_of_ble_eq_true rfl, Nat.le_of_ble_eq_true rfl⟩) hW (mm_recv hW) hS rfl hl.1 rfl (Nat.le_of_ble_eq_true rfl) dX8_told_23 (fun r26 σ25 H locs hw hW hS => ?_)
        obtain ⟨hz_r26, hw⟩ := hw
        refine lv_if_ne (tgt := 42) hx hb dX8_told_26 (by decide) (fun c27 => ?_) (fun c27 => ?_)
        · have hw := hw.2 c27
          exact mmk_told_42  C0   a1 a2 σ25 _ _ _ hw hW hS (hl)
        · have hw := hw.1 c27
          refine lv_goto (tgt := 39) hx hb dX8_told_29 (by decide) ?_
          refine lv_bipush (v := (-2 : Int32)) hx hb dX8_told_39 (by decide) ?_
          exact gg_iret (mm_mv D cl E A ad) C0 hW hS hw dX8_told_41
theorem cd_X8_set : yX8_set.cls = RX8 ∧ yX8_set.cls ≠ "java/lang/invoke/MethodHandle" ∧ yX8_set.cls ≠ "java/lang/invoke/VarHandle" ∧ (parseMethodDescriptor yX8_set.desc).map (fun d => d.parameters.length) = some 3 := by decide +kernel
/-! GleanersForGapsModel.set(III)I -/
def mmw_set_24  (Q : Int32 → gg_S → Prop)  (x1 : Int32) (x2 : Int32) (x3 : Int32) (σ : gg_S) : Prop :=
    (mmw_mostOf x1 σ (fun r4 σ3 => (mmw_in ((x3).toInt64) (0 : Int64) ((r4).toInt64) σ3 (fun r6 σ5 => (((r6 = 0) → Q (-2 : Int32) σ5) ∧ (¬ (r6 = 0) → (mmw_told x2 x1 σ5 (fun r8 σ7 => (mmw_lays x1 x2 x3 σ7 (fun σ9 => Q r8 σ9))))))))))
def mmw_set  (a1 : Int32) (a2 : Int32) (a3 : Int32) (σ : gg_S) (Q : Int32 → gg_S → Prop) : Prop :=
    (mmw_in ((a1).toInt64) (0 : Int64) (2 : Int64) σ (fun r2 σ1 => (((r2 = 0) → Q (-2 : Int32) σ1) ∧ (¬ (r2 = 0) → (((a1 ≤ 0) → mmw_set_24 Q a1 a2 a3 σ1) ∧ (¬ (a1 ≤ 0) → (mmw_isOne a2 σ1 (fun r12 σ11 => (((r12 = 0) → Q (-2 : Int32) σ11) ∧ (¬ (r12 = 0) → mmw_set_24 Q a1 a2 a3 σ11))))))))))
abbrev mmr_set : Room := { frames := 52, cells := 0, slots := 0, locals := 1199 }
set_option maxHeartbeats 4000000 in
set_option maxRecDepth 100000 in
theorem mmk_set_24 {p : Program} {l : Launch} {e : Env} {s : State} {m : MethodId} {args : Array Value} {below : List Frame} {meth : Method} {c : Code} {D : va_G} {cl : List vw_C} {E : ClassId × ClassId} {A : Nat → Prop} {ad : Nat → Nat} {Q : Int32 → gg_S → Prop}   (C0 : gg_C p s m args meth c RX8 cX8_set 5 (some .int))  :
    ∀ (x1 : Int32) (x2 : Int32) (x3 : Int32) (σ : gg_S) (H : Heap) (locs : List Loc) (ls : Array Slot), mmw_set_24 Q x1 x2 x3 σ → mm_W D cl E A ad σ s H → va_S A s.heap H locs → lv_has ls 5 [(0, .ref (ad 0)), (1, .int x1), (2, .int x2), (3, .int x3)] → W p l e mmr_set s m args below meth c H locs 0 0 (MQ below (va_Qi Q (fun u t => mm_W D cl E A ad u t t.heap) A) args s 0 0 A) (F0 m 24 ls []) := by
  obtain ⟨hx, hb, hml, hown, hts, hr, hlocks⟩ := id C0
  intro x1 x2 x3 σ H locs ls hw hW hS hl
  unfold mmw_set_24 at hw
  refine lv_iload_n hx hb dX8_set_24 rfl (lv_at hl 3 rfl) ?_
  refine lv_i2l (v := (x3).toInt64) hx hb dX8_set_25 rfl ?_
  refine lv_lconst (v := (0 : Int64)) hx hb dX8_set_26 (by decide) ?_
  refine lv_iload_n hx hb dX8_set_27 rfl (lv_at hl 1 rfl) ?_
  refine mm_SI ⟨hx, hb, hml, hown, hts⟩ (mmt_mostOf l _ _ hw) (va_cwS 1 hts (lw_S q1442 q1443 q120 q1444) rfl rfl rfl cd_X8_mostOf.2 ⟨Nat.le_of_ble_eq_true rfl, Nat.le_of_ble_eq_true rfl⟩) hW hS rfl hl.1 rfl (Nat.le_of_ble_eq_true rfl) dX8_set_28 (fun r4 σ3 H locs hw hW hS => ?_)
  refine lv_i2l (v := (r4).toInt64) hx hb dX8_set_31 rfl ?_
  refine mm_SI ⟨hx, hb, hml, hown, hts⟩ (mmt_in l _ _ _ _ hw) (va_cwS 3 hts (lw_S q1422 q1423 q120 q1424) rfl rfl rfl cd_X8_in.2 ⟨Nat.le_of_ble_eq_true rfl, Nat.le_of_ble_eq_true rfl⟩) hW hS rfl hl.1 rfl (Nat.le_of_ble_eq_true rfl) dX8_set_32 (fun r6 σ5 H locs hw hW hS => ?_)
  obtain ⟨hz_r6, hw⟩ := hw
  refine lv_if_ne (tgt := 41) hx hb dX8_set_35 (by decide) (fun c10 => ?_) (fun c10 => ?_)
  · have hw := hw.2 c10
    refine lv_aload_n hx hb dX8_set_41 rfl (lv_at hl 0 rfl) ?_
    refine lv_iload_n hx hb dX8_set_42 rfl (lv_at hl 2 rfl) ?_
    refine lv_iload_n hx hb dX8_set_43 rfl (lv_at hl 1 rfl) ?_
    refine mm_VI ⟨hx, hb, hml, hown, hts⟩ (mmt_told l _ _ _ hw) (cwV 2 hts (lw_V q1445 q1446 q1447 q120 q1448) rfl rfl rfl cd_X8_told ⟨Nat.le_of_ble_eq_true rfl, Nat.le_of_ble_eq_true rfl⟩) hW (mm_recv hW) hS rfl hl.1 rfl (Nat.le_of_ble_eq_true rfl) dX8_set_44 (fun r8 σ7 H locs hw hW hS => ?_)
    refine lv_istore (lv' := [(4, .int r8), (0, .ref (ad 0)), (1, .int x1), (2, .int x2), (3, .int x3)]) hx hb dX8_set_47 hl (by decide) rfl (fun ls hl => ?_)
    refine lv_aload_n hx hb dX8_set_49 rfl (lv_at hl 1 rfl) ?_
    refine lv_iload_n hx hb dX8_set_50 rfl (lv_at hl 2 rfl) ?_
    refine lv_iload_n hx hb dX8_set_51 rfl (lv_at hl 3 rfl) ?_
    refine lv_iload_n hx hb dX8_set_52 rfl (lv_at hl 4 rfl) ?_
    refine mm_VV ⟨hx, hb, hml, hown, hts⟩ (mmt_lays l _ _ _ _ hw) (cwV 3 hts (lw_V q1547 q1549 qs84 q120 q1550) rfl rfl rfl cd_X8_lays ⟨Nat.le_of_ble_eq_true rfl, Nat.le_of_ble_eq_true rfl⟩) hW (mm_recv hW) hS rfl hl.1 rfl (Nat.le_of_ble_eq_true rfl) dX8_set_53 (fun σ9 H locs hw hW hS => ?_)
    refine lv_iload hx hb dX8_set_56 (lv_at hl 0 rfl) ?_
    exact gg_iret (mm_mv D cl E A ad) C0 hW hS hw dX8_set_58
  · have hw := hw.1 c10
    refine lv_bipush (v := (-2 : Int32)) hx hb dX8_set_38 (by decide) ?_
    exact gg_iret (mm_mv D cl E A ad) C0 hW hS hw dX8_set_40
set_option maxHeartbeats 4000000 in
set_option maxRecDepth 100000 in
theorem mmt_set (l : Launch) {D : va_G} {cl : List vw_C} {E : ClassId × ClassId} {A : Nat → Prop} {ad : Nat → Nat}  (a1 : Int32) (a2 : Int32) (a3 : Int32) (σ : gg_S) {Q : Int32 → gg_S → Prop} (hw : mmw_set a1 a2 a3 σ Q) :
    Met l yX8_set (ws_ yX8_set cX8_set 5 (some .int)) mmr_set (va_Pc [.ref (ad 0), .int a1, .int a2, .int a3] (fun U => mm_W D cl E A ad σ U U.heap)) (va_Qi Q (fun u t => mm_W D cl E A ad u t t.heap) A) 0 0 A := by
  refine gg_entry (W0 := fun s H => mm_W D cl E A ad σ s H) (by decide) (Nat.le_of_ble_eq_true rfl) ?_
  intro p e s m args below meth c C0 hW ls hl
  have C0 : gg_C p s m args meth c RX8 cX8_set 5 (some .int) := C0
  obtain ⟨hx, hb, hml, hown, hts, hr, hlocks⟩ := id C0
  have hl : lv_has ls 5 [(0, .ref (ad 0)), (1, .int a1), (2, .int a2), (3, .int a3)] := hl
  have hS : va_S A s.heap s.heap [] := va_S.rf
  unfold mmw_set at hw
  refine lv_iload_n hx hb dX8_set_0 rfl (lv_at hl 1 rfl) ?_
  refine lv_i2l (v := (a1).toInt64) hx hb dX8_set_1 rfl ?_
  refine lv_lconst (v := (0 : Int64)) hx hb dX8_set_2 (by decide) ?_
  refine lv_ldc2 (own := RX8) (v := (2 : Int64)) hx hb hown (hts _ q1437) dX8_set_3 ?_
  refine mm_SI ⟨hx, hb, hml, hown, hts⟩ (mmt_in l _ _ _ _ hw) (va_cwS 3 hts (lw_S q1422 q1423 q120 q1424) rfl rfl rfl cd_X8_in.2 ⟨Nat.le_of_ble_eq_true rfl, Nat.le_of_ble_eq_true rfl⟩) hW hS rfl hl.1 rfl (Nat.le_of_ble_eq_true rfl) dX8_set_6 (fun r2 σ1 H locs hw hW hS => ?_)
  obtain ⟨hz_r2, hw⟩ := hw
  refine lv_if_eq (tgt := 38) hx hb dX8_set_9 (by decide) (fun c15 => ?_) (fun c15 => ?_)
  · have hw := hw.1 c15
    refine lv_bipush (v := (-2 : Int32)) hx hb dX8_set_38 (by decide) ?_
    exact gg_iret (mm_mv D cl E A ad) C0 hW hS hw dX8_set_40
  · have hw := hw.2 c15
    refine lv_iload_n hx hb dX8_set_12 rfl (lv_at hl 1 rfl) ?_
    refine lv_if_le (tgt := 24) hx hb dX8_set_13 (by decide) (fun c14 => ?_) (fun c14 => ?_)
    · have hw := hw.1 c14
      exact mmk_set_24  C0   a1 a2 a3 σ1 _ _ _ hw hW hS (hl)
    · have hw := hw.2 c14
      refine lv_aload_n hx hb dX8_set_16 rfl (lv_at hl 0 rfl) ?_
      refine lv_iload_n hx hb dX8_set_17 rfl (lv_at hl 2 rfl) ?_
      refine mm_VI ⟨hx, hb, hml, hown, hts⟩ (mmt_isOne l _ _ hw) (cwV 1 hts (lw_V q1438 q1440 qs61 q120 q1441) rfl rfl rfl cd_X8_isOne ⟨Nat.le_of_ble_eq_true rfl, Nat.le_of_ble_eq_true rfl⟩) hW (mm_recv hW) hS rfl hl.1 rfl (Nat.le_of_ble_eq_true rfl) dX8_set_18 (fun r12 σ11 H locs hw hW hS => ?_)
      obtain ⟨hz_r12, hw⟩ := hw
      refine lv_if_eq (tgt := 38) hx hb dX8_set_21 (by decide) (fun c13 => ?_) (fun c13 => ?_)
      · have hw := hw.1 c13
        refine lv_bipush (v := (-2 : Int32)) hx hb dX8_set_38 (by decide) ?_
        exact gg_iret (mm_mv D cl E A ad) C0 hW hS hw dX8_set_40
      · have hw := hw.2 c13
        exact mmk_set_24  C0   a1 a2 a3 σ11 _ _ _ hw hW hS (hl)
theorem cd_X8_gleaner : yX8_gleaner.cls = RX8 ∧ yX8_gleaner.cls ≠ "java/lang/invoke/MethodHandle" ∧ yX8_gleaner.cls ≠ "java/lang/invoke/VarHandle" ∧ (parseMethodDescriptor yX8_gleaner.desc).map (fun d => d.parameters.length) = some 2 := by decide +kernel
/-! GleanersForGapsModel.gleaner(II)I -/
def mmw_gleaner  (a1 : Int32) (a2 : Int32) (σ : gg_S) (Q : Int32 → gg_S → Prop) : Prop :=
    (mmw_in ((a1).toInt64) (0 : Int64) (5 : Int64) σ (fun r2 σ1 => (((r2 = 0) → Q (-2 : Int32) σ1) ∧ (¬ (r2 = 0) → (mmw_in ((a2).toInt64) (0 : Int64) (9 : Int64) σ1 (fun r4 σ3 => (((r4 = 0) → Q (-2 : Int32) σ3) ∧ (¬ (r4 = 0) → ((((gg_g σ3 0 12) = (5 : Int32)) → Q (-4 : Int32) σ3) ∧ (¬ ((gg_g σ3 0 12) = (5 : Int32)) → vp_in (gg_g σ3 0 12) 5 ∧ (∀ σ5 : gg_S, σ5 = gg_s σ3 6 (gg_g σ3 0 12).toNatClampNeg a1 → vp_in ((2 : Int32) * (gg_g σ5 0 12)) 10 ∧ (∀ σ6 : gg_S, σ6 = gg_s σ5 7 ((2 : Int32) * (gg_g σ5 0 12)).toNatClampNeg a2 → vp_in (((2 : Int32) * (gg_g σ6 0 12)) + (1 : Int32)) 10 ∧ (∀ σ7 : gg_S, σ7 = gg_s σ6 7 (((2 : Int32) * (gg_g σ6 0 12)) + (1 : Int32)).toNatClampNeg (0 : Int32) → (∀ σ8 : gg_S, σ8 = gg_s σ7 0 12 ((gg_g σ7 0 12) + (1 : Int32)) → Q ((gg_g σ8 0 12) - (1 : Int32)) σ8))))))))))))))
abbrev mmr_gleaner : Room := { frames := 1, cells := 0, slots := 0, locals := 25 }
set_option maxHeartbeats 4000000 in
set_option maxRecDepth 100000 in
theorem mmt_gleaner (l : Launch) {D : va_G} {cl : List vw_C} {E : ClassId × ClassId} {A : Nat → Prop} {ad : Nat → Nat}  (a1 : Int32) (a2 : Int32) (σ : gg_S) {Q : Int32 → gg_S → Prop} (hw : mmw_gleaner a1 a2 σ Q) :
    Met l yX8_gleaner (ws_ yX8_gleaner cX8_gleaner 3 (some .int)) mmr_gleaner (va_Pc [.ref (ad 0), .int a1, .int a2] (fun U => mm_W D cl E A ad σ U U.heap)) (va_Qi Q (fun u t => mm_W D cl E A ad u t t.heap) A) 0 0 A := by
  refine gg_entry (W0 := fun s H => mm_W D cl E A ad σ s H) (by decide) (Nat.le_of_ble_eq_true rfl) ?_
  intro p e s m args below meth c C0 hW ls hl
  have C0 : gg_C p s m args meth c RX8 cX8_gleaner 3 (some .int) := C0
  obtain ⟨hx, hb, hml, hown, hts, hr, hlocks⟩ := id C0
  have hl : lv_has ls 3 [(0, .ref (ad 0)), (1, .int a1), (2, .int a2)] := hl
  have hS : va_S A s.heap s.heap [] := va_S.rf
  unfold mmw_gleaner at hw
  refine lv_iload_n hx hb dX8_gleaner_0 rfl (lv_at hl 1 rfl) ?_
  refine lv_i2l (v := (a1).toInt64) hx hb dX8_gleaner_1 rfl ?_
  refine lv_lconst (v := (0 : Int64)) hx hb dX8_gleaner_2 (by decide) ?_
  refine lv_ldc2 (own := RX8) (v := (5 : Int64)) hx hb hown (hts _ q1555) dX8_gleaner_3 ?_
  refine mm_SI ⟨hx, hb, hml, hown, hts⟩ (mmt_in l _ _ _ _ hw) (va_cwS 3 hts (lw_S q1422 q1423 q120 q1424) rfl rfl rfl cd_X8_in.2 ⟨Nat.le_of_ble_eq_true rfl, Nat.le_of_ble_eq_true rfl⟩) hW hS rfl hl.1 rfl (Nat.le_of_ble_eq_true rfl) dX8_gleaner_6 (fun r2 σ1 H locs hw hW hS => ?_)
  obtain ⟨hz_r2, hw⟩ := hw
  refine lv_if_eq (tgt := 24) hx hb dX8_gleaner_9 (by decide) (fun c11 => ?_) (fun c11 => ?_)
  · have hw := hw.1 c11
    refine lv_bipush (v := (-2 : Int32)) hx hb dX8_gleaner_24 (by decide) ?_
    exact gg_iret (mm_mv D cl E A ad) C0 hW hS hw dX8_gleaner_26
  · have hw := hw.2 c11
    refine lv_iload_n hx hb dX8_gleaner_12 rfl (lv_at hl 2 rfl) ?_
    refine lv_i2l (v := (a2).toInt64) hx hb dX8_gleaner_13 rfl ?_
    refine lv_lconst (v := (0 : Int64)) hx hb dX8_gleaner_14 (by decide) ?_
    refine lv_ldc2 (own := RX8) (v := (9 : Int64)) hx hb hown (hts _ q1556) dX8_gleaner_15 ?_
    refine mm_SI ⟨hx, hb, hml, hown, hts⟩ (mmt_in l _ _ _ _ hw) (va_cwS 3 hts (lw_S q1422 q1423 q120 q1424) rfl rfl rfl cd_X8_in.2 ⟨Nat.le_of_ble_eq_true rfl, Nat.le_of_ble_eq_true rfl⟩) hW hS rfl hl.1 rfl (Nat.le_of_ble_eq_true rfl) dX8_gleaner_18 (fun r4 σ3 H locs hw hW hS => ?_)
    obtain ⟨hz_r4, hw⟩ := hw
    refine lv_if_ne (tgt := 27) hx hb dX8_gleaner_21 (by decide) (fun c10 => ?_) (fun c10 => ?_)
    · have hw := hw.2 c10
      refine lv_aload_n hx hb dX8_gleaner_27 rfl (lv_at hl 0 rfl) ?_
      refine mm_geti hx hb hts hown hW 12 (by decide) q1283 dX8_gleaner_28 ?_
      refine lv_iconst (v := (5 : Int32)) hx hb dX8_gleaner_31 (by decide) ?_
      refine lv_icmp_ne (tgt := 38) hx hb dX8_gleaner_32 (by decide) (fun c9 => ?_) (fun c9 => ?_)
      · have hw := hw.2 c9
        refine lv_aload_n hx hb dX8_gleaner_38 rfl (lv_at hl 0 rfl) ?_
        refine mm_getr hx hb hts hown hW 10 6 (by decide) q1281 dX8_gleaner_39 ?_
        refine lv_aload_n hx hb dX8_gleaner_42 rfl (lv_at hl 0 rfl) ?_
        refine mm_geti hx hb hts hown hW 12 (by decide) q1283 dX8_gleaner_43 ?_
        refine lv_iload_n hx hb dX8_gleaner_46 rfl (lv_at hl 1 rfl) ?_
        obtain ⟨hin, hw⟩ := hw
        refine mm_ast hx hb hW hS 5 (by decide) hin dX8_gleaner_47 (fun H locs hW hS => ?_)
        obtain ⟨σ5, eσ5⟩ : ∃ z, z = gg_s σ3 6 (gg_g σ3 0 12).toNatClampNeg a1 := ⟨_, rfl⟩
        rw [← eσ5] at hW
        have hw := hw σ5 eσ5
        refine lv_aload_n hx hb dX8_gleaner_48 rfl (lv_at hl 0 rfl) ?_
        refine mm_getr hx hb hts hown hW 11 7 (by decide) q1282 dX8_gleaner_49 ?_
        refine lv_iconst (v := (2 : Int32)) hx hb dX8_gleaner_52 (by decide) ?_
        refine lv_aload_n hx hb dX8_gleaner_53 rfl (lv_at hl 0 rfl) ?_
        refine mm_geti hx hb hts hown hW 12 (by decide) q1283 dX8_gleaner_54 ?_
        refine lv_imul hx hb dX8_gleaner_57 ?_
        refine lv_iload_n hx hb dX8_gleaner_58 rfl (lv_at hl 2 rfl) ?_
        obtain ⟨hin, hw⟩ := hw
        refine mm_ast hx hb hW hS 6 (by decide) hin dX8_gleaner_59 (fun H locs hW hS => ?_)
        obtain ⟨σ6, eσ6⟩ : ∃ z, z = gg_s σ5 7 ((2 : Int32) * (gg_g σ5 0 12)).toNatClampNeg a2 := ⟨_, rfl⟩
        rw [← eσ6] at hW
        have hw := hw σ6 eσ6
        refine lv_aload_n hx hb dX8_gleaner_60 rfl (lv_at hl 0 rfl) ?_
        refine mm_getr hx hb hts hown hW 11 7 (by decide) q1282 dX8_gleaner_61 ?_
        refine lv_iconst (v := (2 : Int32)) hx hb dX8_gleaner_64 (by decide) ?_
        refine lv_aload_n hx hb dX8_gleaner_65 rfl (lv_at hl 0 rfl) ?_
        refine mm_geti hx hb hts hown hW 12 (by decide) q1283 dX8_gleaner_66 ?_
        refine lv_imul hx hb dX8_gleaner_69 ?_
        refine lv_iconst (v := (1 : Int32)) hx hb dX8_gleaner_70 (by decide) ?_
        refine lv_iadd hx hb dX8_gleaner_71 ?_
        refine lv_iconst (v := (0 : Int32)) hx hb dX8_gleaner_72 (by decide) ?_
        obtain ⟨hin, hw⟩ := hw
        refine mm_ast hx hb hW hS 6 (by decide) hin dX8_gleaner_73 (fun H locs hW hS => ?_)
        obtain ⟨σ7, eσ7⟩ : ∃ z, z = gg_s σ6 7 (((2 : Int32) * (gg_g σ6 0 12)) + (1 : Int32)).toNatClampNeg (0 : Int32) := ⟨_, rfl⟩
        rw [← eσ7] at hW
        have hw := hw σ7 eσ7
        refine lv_aload_n hx hb dX8_gleaner_74 rfl (lv_at hl 0 rfl) ?_
        refine lv_dup hx hb dX8_gleaner_75 rfl ?_
        refine mm_geti hx hb hts hown hW 12 (by decide) q1283 dX8_gleaner_76 ?_
        refine lv_iconst (v := (1 : Int32)) hx hb dX8_gleaner_79 (by decide) ?_
        refine lv_iadd hx hb dX8_gleaner_80 ?_
        refine mm_puti hx hb hts hown hW hS 12 (by decide) q1283 rfl rfl rfl dX8_gleaner_81 (fun H locs hW hS => ?_)
        obtain ⟨σ8, eσ8⟩ : ∃ z, z = gg_s σ7 0 12 ((gg_g σ7 0 12) + (1 : Int32)) := ⟨_, rfl⟩
        rw [← eσ8] at hW
        have hw := hw σ8 eσ8
        refine lv_aload_n hx hb dX8_gleaner_84 rfl (lv_at hl 0 rfl) ?_
        refine mm_geti hx hb hts hown hW 12 (by decide) q1283 dX8_gleaner_85 ?_
        refine lv_iconst (v := (1 : Int32)) hx hb dX8_gleaner_88 (by decide) ?_
        refine lv_isub hx hb dX8_gleaner_89 ?_
        exact gg_iret (mm_mv D cl E A ad) C0 hW hS hw dX8_gleaner_90
      · have hw := hw.1 c9
        refine lv_bipush (v := (-4 : Int32)) hx hb dX8_gleaner_35 (by decide) ?_
        exact gg_iret (mm_mv D cl E A ad) C0 hW hS hw dX8_gleaner_37
    · have hw := hw.1 c10
      refine lv_bipush (v := (-2 : Int32)) hx hb dX8_gleaner_24 (by decide) ?_
      exact gg_iret (mm_mv D cl E A ad) C0 hW hS hw dX8_gleaner_26
theorem cd_X8_feed : yX8_feed.cls = RX8 ∧ yX8_feed.cls ≠ "java/lang/invoke/MethodHandle" ∧ yX8_feed.cls ≠ "java/lang/invoke/VarHandle" ∧ (parseMethodDescriptor yX8_feed.desc).map (fun d => d.parameters.length) = some 1 := by decide +kernel
/-! GleanersForGapsModel.feed(I)I -/
def mmw_feed  (a1 : Int32) (σ : gg_S) (Q : Int32 → gg_S → Prop) : Prop :=
    (mmw_in ((a1).toInt64) (0 : Int64) (255 : Int64) σ (fun r2 σ1 => (((r2 = 0) → Q (-2 : Int32) σ1) ∧ (¬ (r2 = 0) → ((((gg_g σ1 0 6) = (160 : Int32)) → Q (-4 : Int32) σ1) ∧ (¬ ((gg_g σ1 0 6) = (160 : Int32)) → vp_in (gg_g σ1 0 6) 160 ∧ (∀ σ3 : gg_S, σ3 = gg_s σ1 3 (gg_g σ1 0 6).toNatClampNeg a1 → (∀ σ4 : gg_S, σ4 = gg_s σ3 0 6 ((gg_g σ3 0 6) + (1 : Int32)) → Q (gg_g σ4 0 6) σ4))))))))
abbrev mmr_feed : Room := { frames := 1, cells := 0, slots := 0, locals := 25 }
set_option maxHeartbeats 4000000 in
set_option maxRecDepth 100000 in
theorem mmt_feed (l : Launch) {D : va_G} {cl : List vw_C} {E : ClassId × ClassId} {A : Nat → Prop} {ad : Nat → Nat}  (a1 : Int32) (σ : gg_S) {Q : Int32 → gg_S → Prop} (hw : mmw_feed a1 σ Q) :
    Met l yX8_feed (ws_ yX8_feed cX8_feed 2 (some .int)) mmr_feed (va_Pc [.ref (ad 0), .int a1] (fun U => mm_W D cl E A ad σ U U.heap)) (va_Qi Q (fun u t => mm_W D cl E A ad u t t.heap) A) 0 0 A := by
  refine gg_entry (W0 := fun s H => mm_W D cl E A ad σ s H) (by decide) (Nat.le_of_ble_eq_true rfl) ?_
  intro p e s m args below meth c C0 hW ls hl
  have C0 : gg_C p s m args meth c RX8 cX8_feed 2 (some .int) := C0
  obtain ⟨hx, hb, hml, hown, hts, hr, hlocks⟩ := id C0
  have hl : lv_has ls 2 [(0, .ref (ad 0)), (1, .int a1)] := hl
  have hS : va_S A s.heap s.heap [] := va_S.rf
  unfold mmw_feed at hw
  refine lv_iload_n hx hb dX8_feed_0 rfl (lv_at hl 1 rfl) ?_
  refine lv_i2l (v := (a1).toInt64) hx hb dX8_feed_1 rfl ?_
  refine lv_lconst (v := (0 : Int64)) hx hb dX8_feed_2 (by decide) ?_
  refine lv_ldc2 (own := RX8) (v := (255 : Int64)) hx hb hown (hts _ q1562) dX8_feed_3 ?_
  refine mm_SI ⟨hx, hb, hml, hown, hts⟩ (mmt_in l _ _ _ _ hw) (va_cwS 3 hts (lw_S q1422 q1423 q120 q1424) rfl rfl rfl cd_X8_in.2 ⟨Nat.le_of_ble_eq_true rfl, Nat.le_of_ble_eq_true rfl⟩) hW hS rfl hl.1 rfl (Nat.le_of_ble_eq_true rfl) dX8_feed_6 (fun r2 σ1 H locs hw hW hS => ?_)
  obtain ⟨hz_r2, hw⟩ := hw
  refine lv_if_ne (tgt := 15) hx hb dX8_feed_9 (by decide) (fun c6 => ?_) (fun c6 => ?_)
  · have hw := hw.2 c6
    refine lv_aload_n hx hb dX8_feed_15 rfl (lv_at hl 0 rfl) ?_
    refine mm_geti hx hb hts hown hW 6 (by decide) q1277 dX8_feed_16 ?_
    refine lv_sipush (v := (160 : Int32)) hx hb dX8_feed_19 (by decide) ?_
    refine lv_icmp_ne (tgt := 28) hx hb dX8_feed_22 (by decide) (fun c5 => ?_) (fun c5 => ?_)
    · have hw := hw.2 c5
      refine lv_aload_n hx hb dX8_feed_28 rfl (lv_at hl 0 rfl) ?_
      refine mm_getr hx hb hts hown hW 5 3 (by decide) q1276 dX8_feed_29 ?_
      refine lv_aload_n hx hb dX8_feed_32 rfl (lv_at hl 0 rfl) ?_
      refine mm_geti hx hb hts hown hW 6 (by decide) q1277 dX8_feed_33 ?_
      refine lv_iload_n hx hb dX8_feed_36 rfl (lv_at hl 1 rfl) ?_
      obtain ⟨hin, hw⟩ := hw
      refine mm_ast hx hb hW hS 2 (by decide) hin dX8_feed_37 (fun H locs hW hS => ?_)
      obtain ⟨σ3, eσ3⟩ : ∃ z, z = gg_s σ1 3 (gg_g σ1 0 6).toNatClampNeg a1 := ⟨_, rfl⟩
      rw [← eσ3] at hW
      have hw := hw σ3 eσ3
      refine lv_aload_n hx hb dX8_feed_38 rfl (lv_at hl 0 rfl) ?_
      refine lv_dup hx hb dX8_feed_39 rfl ?_
      refine mm_geti hx hb hts hown hW 6 (by decide) q1277 dX8_feed_40 ?_
      refine lv_iconst (v := (1 : Int32)) hx hb dX8_feed_43 (by decide) ?_
      refine lv_iadd hx hb dX8_feed_44 ?_
      refine mm_puti hx hb hts hown hW hS 6 (by decide) q1277 rfl rfl rfl dX8_feed_45 (fun H locs hW hS => ?_)
      obtain ⟨σ4, eσ4⟩ : ∃ z, z = gg_s σ3 0 6 ((gg_g σ3 0 6) + (1 : Int32)) := ⟨_, rfl⟩
      rw [← eσ4] at hW
      have hw := hw σ4 eσ4
      refine lv_aload_n hx hb dX8_feed_48 rfl (lv_at hl 0 rfl) ?_
      refine mm_geti hx hb hts hown hW 6 (by decide) q1277 dX8_feed_49 ?_
      exact gg_iret (mm_mv D cl E A ad) C0 hW hS hw dX8_feed_52
    · have hw := hw.1 c5
      refine lv_bipush (v := (-4 : Int32)) hx hb dX8_feed_25 (by decide) ?_
      exact gg_iret (mm_mv D cl E A ad) C0 hW hS hw dX8_feed_27
  · have hw := hw.1 c6
    refine lv_bipush (v := (-2 : Int32)) hx hb dX8_feed_12 (by decide) ?_
    exact gg_iret (mm_mv D cl E A ad) C0 hW hS hw dX8_feed_14
theorem cd_X8_text : yX8_text.cls = RX8 ∧ yX8_text.cls ≠ "java/lang/invoke/MethodHandle" ∧ yX8_text.cls ≠ "java/lang/invoke/VarHandle" ∧ (parseMethodDescriptor yX8_text.desc).map (fun d => d.parameters.length) = some 0 := by decide +kernel
/-! GleanersForGapsModel.text()I -/
def mmw_text_14  (Q : Int32 → gg_S → Prop)  : Nat → Int32 → gg_S → Prop
  | 0, _, _ => False
  | n + 1, x1, σ =>
    ((((gg_g σ 0 6) ≤ x1) → vp_in (gg_g σ 0 3) 6 ∧ (∀ σ1 : gg_S, σ1 = gg_s σ 2 (gg_g σ 0 3).toNatClampNeg (gg_g σ 0 6) → (∀ σ2 : gg_S, σ2 = gg_s σ1 0 6 (0 : Int32) → (mmw_read (gg_g σ2 0 3) (0 : Int32) σ2 (fun r4 σ3 => ((((gg_g σ3 0 26) = 0) → (∀ σ5 : gg_S, σ5 = gg_s σ3 0 3 ((gg_g σ3 0 3) + (1 : Int32)) → Q ((gg_g σ5 0 3) - (1 : Int32)) σ5)) ∧ (¬ ((gg_g σ3 0 26) = 0) → Q ((-100 : Int32) - (gg_g σ3 0 27)) σ3))))))) ∧ (¬ ((gg_g σ 0 6) ≤ x1) → vp_in x1 160 ∧ vp_in (((160 : Int32) * (gg_g σ 0 3)) + x1) 960 ∧ (∀ σ7 : gg_S, σ7 = gg_s σ 1 (((160 : Int32) * (gg_g σ 0 3)) + x1).toNatClampNeg (gg_g σ 3 x1.toNatClampNeg) → mmw_text_14 Q n (x1 + (1 : Int32)) σ7)))
def mmw_text   (σ : gg_S) (Q : Int32 → gg_S → Prop) : Prop :=
    ((((gg_g σ 0 3) = (6 : Int32)) → Q (-4 : Int32) σ) ∧ (¬ ((gg_g σ 0 3) = (6 : Int32)) → ∃ k9, mmw_text_14 Q k9 (0 : Int32) σ))
abbrev mmr_text : Room := { frames := 49, cells := 0, slots := 0, locals := 1126 }
set_option maxHeartbeats 4000000 in
set_option maxRecDepth 100000 in
theorem mmk_text_14 {p : Program} {l : Launch} {e : Env} {s : State} {m : MethodId} {args : Array Value} {below : List Frame} {meth : Method} {c : Code} {D : va_G} {cl : List vw_C} {E : ClassId × ClassId} {A : Nat → Prop} {ad : Nat → Nat} {Q : Int32 → gg_S → Prop}   (C0 : gg_C p s m args meth c RX8 cX8_text 2 (some .int))  :
    ∀ n : Nat, ∀ (x1 : Int32) (σ : gg_S) (H : Heap) (locs : List Loc) (ls : Array Slot), mmw_text_14 Q n x1 σ → mm_W D cl E A ad σ s H → va_S A s.heap H locs → lv_has ls 2 [(0, .ref (ad 0)), (1, .int x1)] → W p l e mmr_text s m args below meth c H locs 0 0 (MQ below (va_Qi Q (fun u t => mm_W D cl E A ad u t t.heap) A) args s 0 0 A) (F0 m 14 ls []) := by
  obtain ⟨hx, hb, hml, hown, hts, hr, hlocks⟩ := id C0
  intro n
  induction n with
  | zero =>
    intro x1 σ H locs ls hw hW hS hl
    exact absurd hw (by unfold mmw_text_14; exact id)
  | succ n ih =>
    intro x1 σ H locs ls hw hW hS hl
    unfold mmw_text_14 at hw
    refine lv_iload_n hx hb dX8_text_14 rfl (lv_at hl 1 rfl) ?_
    refine lv_aload_n hx hb dX8_text_15 rfl (lv_at hl 0 rfl) ?_
    refine mm_geti hx hb hts hown hW 6 (by decide) q1277 dX8_text_16 ?_
    refine lv_icmp_ge (tgt := 49) hx hb dX8_text_19 (by decide) (fun c8 => ?_) (fun c8 => ?_)
    · have hw := hw.1 c8
      refine lv_aload_n hx hb dX8_text_49 rfl (lv_at hl 0 rfl) ?_
      refine mm_getr hx hb hts hown hW 2 2 (by decide) q1273 dX8_text_50 ?_
      refine lv_aload_n hx hb dX8_text_53 rfl (lv_at hl 0 rfl) ?_
      refine mm_geti hx hb hts hown hW 3 (by decide) q1274 dX8_text_54 ?_
      refine lv_aload_n hx hb dX8_text_57 rfl (lv_at hl 0 rfl) ?_
      refine mm_geti hx hb hts hown hW 6 (by decide) q1277 dX8_text_58 ?_
      obtain ⟨hin, hw⟩ := hw
      refine mm_ast hx hb hW hS 1 (by decide) hin dX8_text_61 (fun H locs hW hS => ?_)
      obtain ⟨σ1, eσ1⟩ : ∃ z, z = gg_s σ 2 (gg_g σ 0 3).toNatClampNeg (gg_g σ 0 6) := ⟨_, rfl⟩
      rw [← eσ1] at hW
      have hw := hw σ1 eσ1
      refine lv_aload_n hx hb dX8_text_62 rfl (lv_at hl 0 rfl) ?_
      refine lv_iconst (v := (0 : Int32)) hx hb dX8_text_63 (by decide) ?_
      refine mm_puti hx hb hts hown hW hS 6 (by decide) q1277 rfl rfl rfl dX8_text_64 (fun H locs hW hS => ?_)
      obtain ⟨σ2, eσ2⟩ : ∃ z, z = gg_s σ1 0 6 (0 : Int32) := ⟨_, rfl⟩
      rw [← eσ2] at hW
      have hw := hw σ2 eσ2
      refine lv_aload_n hx hb dX8_text_67 rfl (lv_at hl 0 rfl) ?_
      refine lv_aload_n hx hb dX8_text_68 rfl (lv_at hl 0 rfl) ?_
      refine mm_geti hx hb hts hown hW 3 (by decide) q1274 dX8_text_69 ?_
      refine lv_iconst (v := (0 : Int32)) hx hb dX8_text_72 (by decide) ?_
      refine mm_VI ⟨hx, hb, hml, hown, hts⟩ (mmt_read l _ _ _ hw) (cwV 2 hts (lw_V q1458 q1460 qs64 q120 q1461) rfl rfl rfl cd_X8_read ⟨Nat.le_of_ble_eq_true rfl, Nat.le_of_ble_eq_true rfl⟩) hW (mm_recv hW) hS rfl hl.1 rfl (Nat.le_of_ble_eq_true rfl) dX8_text_73 (fun r4 σ3 H locs hw hW hS => ?_)
      refine lv_istore_n (lv' := [(1, .int r4), (0, .ref (ad 0))]) hx hb dX8_text_76 rfl hl (by decide) rfl (fun ls hl => ?_)
      refine lv_aload_n hx hb dX8_text_77 rfl (lv_at hl 1 rfl) ?_
      refine mm_geti hx hb hts hown hW 26 (by decide) q1297 dX8_text_78 ?_
      refine lv_if_eq (tgt := 92) hx hb dX8_text_81 (by decide) (fun c6 => ?_) (fun c6 => ?_)
      · have hw := hw.1 c6
        refine lv_aload_n hx hb dX8_text_92 rfl (lv_at hl 1 rfl) ?_
        refine lv_dup hx hb dX8_text_93 rfl ?_
        refine mm_geti hx hb hts hown hW 3 (by decide) q1274 dX8_text_94 ?_
        refine lv_iconst (v := (1 : Int32)) hx hb dX8_text_97 (by decide) ?_
        refine lv_iadd hx hb dX8_text_98 ?_
        refine mm_puti hx hb hts hown hW hS 3 (by decide) q1274 rfl rfl rfl dX8_text_99 (fun H locs hW hS => ?_)
        obtain ⟨σ5, eσ5⟩ : ∃ z, z = gg_s σ3 0 3 ((gg_g σ3 0 3) + (1 : Int32)) := ⟨_, rfl⟩
        rw [← eσ5] at hW
        have hw := hw σ5 eσ5
        refine lv_aload_n hx hb dX8_text_102 rfl (lv_at hl 1 rfl) ?_
        refine mm_geti hx hb hts hown hW 3 (by decide) q1274 dX8_text_103 ?_
        refine lv_iconst (v := (1 : Int32)) hx hb dX8_text_106 (by decide) ?_
        refine lv_isub hx hb dX8_text_107 ?_
        exact gg_iret (mm_mv D cl E A ad) C0 hW hS hw dX8_text_108
      · have hw := hw.2 c6
        refine lv_bipush (v := (-100 : Int32)) hx hb dX8_text_84 (by decide) ?_
        refine lv_aload_n hx hb dX8_text_86 rfl (lv_at hl 1 rfl) ?_
        refine mm_geti hx hb hts hown hW 27 (by decide) q1298 dX8_text_87 ?_
        refine lv_isub hx hb dX8_text_90 ?_
        exact gg_iret (mm_mv D cl E A ad) C0 hW hS hw dX8_text_91
    · have hw := hw.2 c8
      refine lv_aload_n hx hb dX8_text_22 rfl (lv_at hl 0 rfl) ?_
      refine mm_getr hx hb hts hown hW 1 1 (by decide) q1272 dX8_text_23 ?_
      refine lv_sipush (v := (160 : Int32)) hx hb dX8_text_26 (by decide) ?_
      refine lv_aload_n hx hb dX8_text_29 rfl (lv_at hl 0 rfl) ?_
      refine mm_geti hx hb hts hown hW 3 (by decide) q1274 dX8_text_30 ?_
      refine lv_imul hx hb dX8_text_33 ?_
      refine lv_iload_n hx hb dX8_text_34 rfl (lv_at hl 1 rfl) ?_
      refine lv_iadd hx hb dX8_text_35 ?_
      refine lv_aload_n hx hb dX8_text_36 rfl (lv_at hl 0 rfl) ?_
      refine mm_getr hx hb hts hown hW 5 3 (by decide) q1276 dX8_text_37 ?_
      refine lv_iload_n hx hb dX8_text_40 rfl (lv_at hl 1 rfl) ?_
      obtain ⟨hin, hw⟩ := hw
      refine mm_ald hx hb hW 2 (by decide) hin dX8_text_41 ?_
      obtain ⟨hin, hw⟩ := hw
      refine mm_ast hx hb hW hS 0 (by decide) hin dX8_text_42 (fun H locs hW hS => ?_)
      obtain ⟨σ7, eσ7⟩ : ∃ z, z = gg_s σ 1 (((160 : Int32) * (gg_g σ 0 3)) + x1).toNatClampNeg (gg_g σ 3 x1.toNatClampNeg) := ⟨_, rfl⟩
      rw [← eσ7] at hW
      have hw := hw σ7 eσ7
      refine lv_iinc (v := (x1 + (1 : Int32))) (lv' := [(1, .int (x1 + (1 : Int32))), (0, .ref (ad 0))]) hx hb dX8_text_43 hl (k := 1) rfl rfl (by decide) rfl (fun ls hl => ?_)
      refine lv_goto (tgt := 14) hx hb dX8_text_46 (by decide) ?_
      exact ih (x1 + (1 : Int32)) σ7 _ _ _ hw hW hS (lv_sub hl [1, 0] rfl)
set_option maxHeartbeats 4000000 in
set_option maxRecDepth 100000 in
theorem mmt_text (l : Launch) {D : va_G} {cl : List vw_C} {E : ClassId × ClassId} {A : Nat → Prop} {ad : Nat → Nat}   (σ : gg_S) {Q : Int32 → gg_S → Prop} (hw : mmw_text σ Q) :
    Met l yX8_text (ws_ yX8_text cX8_text 2 (some .int)) mmr_text (va_Pc [.ref (ad 0)] (fun U => mm_W D cl E A ad σ U U.heap)) (va_Qi Q (fun u t => mm_W D cl E A ad u t t.heap) A) 0 0 A := by
  refine gg_entry (W0 := fun s H => mm_W D cl E A ad σ s H) (by decide) (Nat.le_of_ble_eq_true rfl) ?_
  intro p e s m args below meth c C0 hW ls hl
  have C0 : gg_C p s m args meth c RX8 cX8_text 2 (some .int) := C0
  obtain ⟨hx, hb, hml, hown, hts, hr, hlocks⟩ := id C0
  have hl : lv_has ls 2 [(0, .ref (ad 0))] := hl
  have hS : va_S A s.heap s.heap [] := va_S.rf
  unfold mmw_text at hw
  refine lv_aload_n hx hb dX8_text_0 rfl (lv_at hl 0 rfl) ?_
  refine mm_geti hx hb hts hown hW 3 (by decide) q1274 dX8_text_1 ?_
  refine lv_bipush (v := (6 : Int32)) hx hb dX8_text_4 (by decide) ?_
  refine lv_icmp_ne (tgt := 12) hx hb dX8_text_6 (by decide) (fun c9 => ?_) (fun c9 => ?_)
  · have hw := hw.2 c9
    refine lv_iconst (v := (0 : Int32)) hx hb dX8_text_12 (by decide) ?_
    refine lv_istore_n (lv' := [(1, .int (0 : Int32)), (0, .ref (ad 0))]) hx hb dX8_text_13 rfl hl (by decide) rfl (fun ls hl => ?_)
    obtain ⟨n9, hw⟩ := hw
    exact mmk_text_14  C0   n9 (0 : Int32) σ _ _ _ hw hW hS (lv_sub hl [1, 0] rfl)
  · have hw := hw.1 c9
    refine lv_bipush (v := (-4 : Int32)) hx hb dX8_text_9 (by decide) ?_
    exact gg_iret (mm_mv D cl E A ad) C0 hW hS hw dX8_text_11
theorem cd_X8_force : yX8_force.cls = RX8 ∧ yX8_force.cls ≠ "java/lang/invoke/MethodHandle" ∧ yX8_force.cls ≠ "java/lang/invoke/VarHandle" ∧ (parseMethodDescriptor yX8_force.desc).map (fun d => d.parameters.length) = some 1 := by decide +kernel
/-! GleanersForGapsModel.force(I)I -/
def mmw_force  (a1 : Int32) (σ : gg_S) (Q : Int32 → gg_S → Prop) : Prop :=
    (mmw_in ((a1).toInt64) (0 : Int64) ((((gg_g σ 0 3) - (1 : Int32))).toInt64) σ (fun r2 σ1 => (((r2 = 0) → Q (-2 : Int32) σ1) ∧ (¬ (r2 = 0) → (∀ σ3 : gg_S, σ3 = gg_s σ1 0 4 a1 → Q (gg_g σ1 0 4) σ3)))))
abbrev mmr_force : Room := { frames := 1, cells := 0, slots := 0, locals := 25 }
set_option maxHeartbeats 4000000 in
set_option maxRecDepth 100000 in
theorem mmt_force (l : Launch) {D : va_G} {cl : List vw_C} {E : ClassId × ClassId} {A : Nat → Prop} {ad : Nat → Nat}  (a1 : Int32) (σ : gg_S) {Q : Int32 → gg_S → Prop} (hw : mmw_force a1 σ Q) :
    Met l yX8_force (ws_ yX8_force cX8_force 3 (some .int)) mmr_force (va_Pc [.ref (ad 0), .int a1] (fun U => mm_W D cl E A ad σ U U.heap)) (va_Qi Q (fun u t => mm_W D cl E A ad u t t.heap) A) 0 0 A := by
  refine gg_entry (W0 := fun s H => mm_W D cl E A ad σ s H) (by decide) (Nat.le_of_ble_eq_true rfl) ?_
  intro p e s m args below meth c C0 hW ls hl
  have C0 : gg_C p s m args meth c RX8 cX8_force 3 (some .int) := C0
  obtain ⟨hx, hb, hml, hown, hts, hr, hlocks⟩ := id C0
  have hl : lv_has ls 3 [(0, .ref (ad 0)), (1, .int a1)] := hl
  have hS : va_S A s.heap s.heap [] := va_S.rf
  unfold mmw_force at hw
  refine lv_iload_n hx hb dX8_force_0 rfl (lv_at hl 1 rfl) ?_
  refine lv_i2l (v := (a1).toInt64) hx hb dX8_force_1 rfl ?_
  refine lv_lconst (v := (0 : Int64)) hx hb dX8_force_2 (by decide) ?_
  refine lv_aload_n hx hb dX8_force_3 rfl (lv_at hl 0 rfl) ?_
  refine mm_geti hx hb hts hown hW 3 (by decide) q1274 dX8_force_4 ?_
  refine lv_iconst (v := (1 : Int32)) hx hb dX8_force_7 (by decide) ?_
  refine lv_isub hx hb dX8_force_8 ?_
  refine lv_i2l (v := (((gg_g σ 0 3) - (1 : Int32))).toInt64) hx hb dX8_force_9 rfl ?_
  refine mm_SI ⟨hx, hb, hml, hown, hts⟩ (mmt_in l _ _ _ _ hw) (va_cwS 3 hts (lw_S q1422 q1423 q120 q1424) rfl rfl rfl cd_X8_in.2 ⟨Nat.le_of_ble_eq_true rfl, Nat.le_of_ble_eq_true rfl⟩) hW hS rfl hl.1 rfl (Nat.le_of_ble_eq_true rfl) dX8_force_10 (fun r2 σ1 H locs hw hW hS => ?_)
  obtain ⟨hz_r2, hw⟩ := hw
  refine lv_if_ne (tgt := 19) hx hb dX8_force_13 (by decide) (fun c4 => ?_) (fun c4 => ?_)
  · have hw := hw.2 c4
    refine lv_aload_n hx hb dX8_force_19 rfl (lv_at hl 0 rfl) ?_
    refine mm_geti hx hb hts hown hW 4 (by decide) q1275 dX8_force_20 ?_
    refine lv_istore_n (lv' := [(2, .int (gg_g σ1 0 4)), (0, .ref (ad 0)), (1, .int a1)]) hx hb dX8_force_23 rfl hl (by decide) rfl (fun ls hl => ?_)
    refine lv_aload_n hx hb dX8_force_24 rfl (lv_at hl 1 rfl) ?_
    refine lv_iload_n hx hb dX8_force_25 rfl (lv_at hl 2 rfl) ?_
    refine mm_puti hx hb hts hown hW hS 4 (by decide) q1275 rfl rfl rfl dX8_force_26 (fun H locs hW hS => ?_)
    obtain ⟨σ3, eσ3⟩ : ∃ z, z = gg_s σ1 0 4 a1 := ⟨_, rfl⟩
    rw [← eσ3] at hW
    have hw := hw σ3 eσ3
    refine lv_iload_n hx hb dX8_force_29 rfl (lv_at hl 0 rfl) ?_
    exact gg_iret (mm_mv D cl E A ad) C0 hW hS hw dX8_force_30
  · have hw := hw.1 c4
    refine lv_bipush (v := (-2 : Int32)) hx hb dX8_force_16 (by decide) ?_
    exact gg_iret (mm_mv D cl E A ad) C0 hW hS hw dX8_force_18
theorem cd_X8_run : yX8_run.cls = RX8 ∧ yX8_run.cls ≠ "java/lang/invoke/MethodHandle" ∧ yX8_run.cls ≠ "java/lang/invoke/VarHandle" ∧ (parseMethodDescriptor yX8_run.desc).map (fun d => d.parameters.length) = some 2 := by decide +kernel
/-! GleanersForGapsModel.run(II)I -/
def mmw_run  (a1 : Int32) (a2 : Int32) (σ : gg_S) (Q : Int32 → gg_S → Prop) : Prop :=
    (mmw_isRow a1 σ (fun r2 σ1 => (((r2 = 0) → Q (-2 : Int32) σ1) ∧ (¬ (r2 = 0) → (mmw_runsOf a1 σ1 (fun r4 σ3 => (mmw_in ((a2).toInt64) (0 : Int64) (((r4 - (1 : Int32))).toInt64) σ3 (fun r6 σ5 => (((r6 = 0) → Q (-2 : Int32) σ5) ∧ (¬ (r6 = 0) → vp_in a2 24 ∧ Q (gg_g σ5 9 a2.toNatClampNeg) σ5))))))))))
abbrev mmr_run : Room := { frames := 2, cells := 0, slots := 0, locals := 45 }
set_option maxHeartbeats 4000000 in
set_option maxRecDepth 100000 in
theorem mmt_run (l : Launch) {D : va_G} {cl : List vw_C} {E : ClassId × ClassId} {A : Nat → Prop} {ad : Nat → Nat}  (a1 : Int32) (a2 : Int32) (σ : gg_S) {Q : Int32 → gg_S → Prop} (hw : mmw_run a1 a2 σ Q) :
    Met l yX8_run (ws_ yX8_run cX8_run 3 (some .int)) mmr_run (va_Pc [.ref (ad 0), .int a1, .int a2] (fun U => mm_W D cl E A ad σ U U.heap)) (va_Qi Q (fun u t => mm_W D cl E A ad u t t.heap) A) 0 0 A := by
  refine gg_entry (W0 := fun s H => mm_W D cl E A ad σ s H) (by decide) (Nat.le_of_ble_eq_true rfl) ?_
  intro p e s m args below meth c C0 hW ls hl
  have C0 : gg_C p s m args meth c RX8 cX8_run 3 (some .int) := C0
  obtain ⟨hx, hb, hml, hown, hts, hr, hlocks⟩ := id C0
  have hl : lv_has ls 3 [(0, .ref (ad 0)), (1, .int a1), (2, .int a2)] := hl
  have hS : va_S A s.heap s.heap [] := va_S.rf
  unfold mmw_run at hw
  refine lv_iload_n hx hb dX8_run_0 rfl (lv_at hl 1 rfl) ?_
  refine mm_SI ⟨hx, hb, hml, hown, hts⟩ (mmt_isRow l _ _ hw) (va_cwS 1 hts (lw_S q1418 q1419 q120 q1420) rfl rfl rfl cd_X8_isRow.2 ⟨Nat.le_of_ble_eq_true rfl, Nat.le_of_ble_eq_true rfl⟩) hW hS rfl hl.1 rfl (Nat.le_of_ble_eq_true rfl) dX8_run_1 (fun r2 σ1 H locs hw hW hS => ?_)
  obtain ⟨hz_r2, hw⟩ := hw
  refine lv_if_eq (tgt := 33) hx hb dX8_run_4 (by decide) (fun c8 => ?_) (fun c8 => ?_)
  · have hw := hw.1 c8
    refine lv_bipush (v := (-2 : Int32)) hx hb dX8_run_33 (by decide) ?_
    exact gg_iret (mm_mv D cl E A ad) C0 hW hS hw dX8_run_35
  · have hw := hw.2 c8
    refine lv_iload_n hx hb dX8_run_7 rfl (lv_at hl 2 rfl) ?_
    refine lv_i2l (v := (a2).toInt64) hx hb dX8_run_8 rfl ?_
    refine lv_lconst (v := (0 : Int64)) hx hb dX8_run_9 (by decide) ?_
    refine lv_aload_n hx hb dX8_run_10 rfl (lv_at hl 0 rfl) ?_
    refine lv_iload_n hx hb dX8_run_11 rfl (lv_at hl 1 rfl) ?_
    refine mm_VI ⟨hx, hb, hml, hown, hts⟩ (mmt_runsOf l _ _ hw) (cwV 1 hts (lw_V q1531 q1533 qs80 q120 q1534) rfl rfl rfl cd_X8_runsOf ⟨Nat.le_of_ble_eq_true rfl, Nat.le_of_ble_eq_true rfl⟩) hW (mm_recv hW) hS rfl hl.1 rfl (Nat.le_of_ble_eq_true rfl) dX8_run_12 (fun r4 σ3 H locs hw hW hS => ?_)
    refine lv_iconst (v := (1 : Int32)) hx hb dX8_run_15 (by decide) ?_
    refine lv_isub hx hb dX8_run_16 ?_
    refine lv_i2l (v := ((r4 - (1 : Int32))).toInt64) hx hb dX8_run_17 rfl ?_
    refine mm_SI ⟨hx, hb, hml, hown, hts⟩ (mmt_in l _ _ _ _ hw) (va_cwS 3 hts (lw_S q1422 q1423 q120 q1424) rfl rfl rfl cd_X8_in.2 ⟨Nat.le_of_ble_eq_true rfl, Nat.le_of_ble_eq_true rfl⟩) hW hS rfl hl.1 rfl (Nat.le_of_ble_eq_true rfl) dX8_run_18 (fun r6 σ5 H locs hw hW hS => ?_)
    obtain ⟨hz_r6, hw⟩ := hw
    refine lv_if_eq (tgt := 33) hx hb dX8_run_21 (by decide) (fun c7 => ?_) (fun c7 => ?_)
    · have hw := hw.1 c7
      refine lv_bipush (v := (-2 : Int32)) hx hb dX8_run_33 (by decide) ?_
      exact gg_iret (mm_mv D cl E A ad) C0 hW hS hw dX8_run_35
    · have hw := hw.2 c7
      refine lv_aload_n hx hb dX8_run_24 rfl (lv_at hl 0 rfl) ?_
      refine mm_getr hx hb hts hown hW 29 9 (by decide) q1300 dX8_run_25 ?_
      refine lv_iload_n hx hb dX8_run_28 rfl (lv_at hl 2 rfl) ?_
      obtain ⟨hin, hw⟩ := hw
      refine mm_ald hx hb hW 8 (by decide) hin dX8_run_29 ?_
      refine lv_goto (tgt := 35) hx hb dX8_run_30 (by decide) ?_
      exact gg_iret (mm_mv D cl E A ad) C0 hW hS hw dX8_run_35
theorem cd_X8_takesOf : yX8_takesOf.cls = RX8 ∧ yX8_takesOf.cls ≠ "java/lang/invoke/MethodHandle" ∧ yX8_takesOf.cls ≠ "java/lang/invoke/VarHandle" ∧ (parseMethodDescriptor yX8_takesOf.desc).map (fun d => d.parameters.length) = some 4 := by decide +kernel
/-! GleanersForGapsModel.takesOf(IIII)I -/
def mmw_takesOf_42  (Q : Int32 → gg_S → Prop)  (x2 : Int32) (x5 : Int32) (x6 : Int32) (x7 : Int32) (σ : gg_S) : Prop :=
    (((x5 = (4 : Int32)) → (((x7 < x6) → Q x2 σ) ∧ (¬ (x7 < x6) → Q (-x6) σ))) ∧ (¬ (x5 = (4 : Int32)) → Q x2 σ))
def mmw_takesOf_127  (Q : Int32 → gg_S → Prop)  (x2 : Int32) (s0 : Int32) (σ : gg_S) : Prop :=
    (mmw_within s0 (0 : Int32) x2 σ (fun r6 σ5 => Q r6 σ5))
def mmw_takesOf_103  (Q : Int32 → gg_S → Prop)  (x2 : Int32) (x8 : Int32) (σ : gg_S) : Prop :=
    mmw_takesOf_127 Q x2 (x8 + (x2 - x2 / (2 : Int32) * (2 : Int32))) σ
def mmw_takesOf_76  (Q : Int32 → gg_S → Prop)  (x2 : Int32) (x3 : Int32) (x4 : Int32) (x5 : Int32) (x6 : Int32) (x7 : Int32) (σ : gg_S) : Prop :=
    (mmw_says (0 : Int32) x2 x3 x6 x7 x4 σ (fun r4 σ3 => (((x5 = (1 : Int32)) → mmw_takesOf_103 Q x2 r4 σ3) ∧ (¬ (x5 = (1 : Int32)) → (((x5 = (3 : Int32)) → mmw_takesOf_103 Q x2 r4 σ3) ∧ (¬ (x5 = (3 : Int32)) → (((x5 = (5 : Int32)) → mmw_takesOf_127 Q x2 (r4 / (2 : Int32)) σ3) ∧ (¬ (x5 = (5 : Int32)) → mmw_takesOf_127 Q x2 r4 σ3))))))))
def mmw_takesOf  (a1 : Int32) (a2 : Int32) (a3 : Int32) (a4 : Int32) (σ : gg_S) (Q : Int32 → gg_S → Prop) : Prop :=
    vp_in a1 5 ∧ vp_in ((2 : Int32) * a1) 10 ∧ vp_in (((2 : Int32) * a1) + (1 : Int32)) 10 ∧ ((((gg_g σ 6 a1.toNatClampNeg) = (2 : Int32)) → mmw_takesOf_42 Q a2 (gg_g σ 6 a1.toNatClampNeg) (gg_g σ 7 ((2 : Int32) * a1).toNatClampNeg) (gg_g σ 7 (((2 : Int32) * a1) + (1 : Int32)).toNatClampNeg) σ) ∧ (¬ ((gg_g σ 6 a1.toNatClampNeg) = (2 : Int32)) → ((((gg_g σ 6 a1.toNatClampNeg) = (4 : Int32)) → mmw_takesOf_42 Q a2 (gg_g σ 6 a1.toNatClampNeg) (gg_g σ 7 ((2 : Int32) * a1).toNatClampNeg) (gg_g σ 7 (((2 : Int32) * a1) + (1 : Int32)).toNatClampNeg) σ) ∧ (¬ ((gg_g σ 6 a1.toNatClampNeg) = (4 : Int32)) → ((((gg_g σ 6 a1.toNatClampNeg) = (3 : Int32)) → (((a2 = (1 : Int32)) → Q (0 : Int32) σ) ∧ (¬ (a2 = (1 : Int32)) → mmw_takesOf_76 Q a2 a3 a4 (gg_g σ 6 a1.toNatClampNeg) (gg_g σ 7 ((2 : Int32) * a1).toNatClampNeg) (gg_g σ 7 (((2 : Int32) * a1) + (1 : Int32)).toNatClampNeg) σ))) ∧ (¬ ((gg_g σ 6 a1.toNatClampNeg) = (3 : Int32)) → mmw_takesOf_76 Q a2 a3 a4 (gg_g σ 6 a1.toNatClampNeg) (gg_g σ 7 ((2 : Int32) * a1).toNatClampNeg) (gg_g σ 7 (((2 : Int32) * a1) + (1 : Int32)).toNatClampNeg) σ))))))
abbrev mmr_takesOf : Room := { frames := 50, cells := 0, slots := 0, locals := 1152 }
set_option maxHeartbeats 4000000 in
set_option maxRecDepth 100000 in
theorem mmk_takesOf_42 {p : Program} {l : Launch} {e : Env} {s : State} {m : MethodId} {args : Array Value} {below : List Frame} {meth : Method} {c : Code} {D : va_G} {cl : List vw_C} {E : ClassId × ClassId} {A : Nat → Prop} {ad : Nat → Nat} {Q : Int32 → gg_S → Prop}   (C0 : gg_C p s m args meth c RX8 cX8_takesOf 9 (some .int))  :
    ∀ (x2 : Int32) (x5 : Int32) (x6 : Int32) (x7 : Int32) (σ : gg_S) (H : Heap) (locs : List Loc) (ls : Array Slot), mmw_takesOf_42 Q x2 x5 x6 x7 σ → mm_W D cl E A ad σ s H → va_S A s.heap H locs → lv_has ls 9 [(0, .ref (ad 0)), (2, .int x2), (5, .int x5), (6, .int x6), (7, .int x7)] → W p l e mmr_takesOf s m args below meth c H locs 0 0 (MQ below (va_Qi Q (fun u t => mm_W D cl E A ad u t t.heap) A) args s 0 0 A) (F0 m 42 ls []) := by
  obtain ⟨hx, hb, hml, hown, hts, hr, hlocks⟩ := id C0
  intro x2 x5 x6 x7 σ H locs ls hw hW hS hl
  unfold mmw_takesOf_42 at hw
  refine lv_iload hx hb dX8_takesOf_42 (lv_at hl 2 rfl) ?_
  refine lv_iconst (v := (4 : Int32)) hx hb dX8_takesOf_44 (by decide) ?_
  refine lv_icmp_ne (tgt := 61) hx hb dX8_takesOf_45 (by decide) (fun c2 => ?_) (fun c2 => ?_)
  · have hw := hw.2 c2
    refine lv_iload_n hx hb dX8_takesOf_61 rfl (lv_at hl 1 rfl) ?_
    exact gg_iret (mm_mv D cl E A ad) C0 hW hS hw dX8_takesOf_62
  · have hw := hw.1 c2
    refine lv_iload hx hb dX8_takesOf_48 (lv_at hl 4 rfl) ?_
    refine lv_iload hx hb dX8_takesOf_50 (lv_at hl 3 rfl) ?_
    refine lv_icmp_lt (tgt := 61) hx hb dX8_takesOf_52 (by decide) (fun c1 => ?_) (fun c1 => ?_)
    · have hw := hw.1 c1
      refine lv_iload_n hx hb dX8_takesOf_61 rfl (lv_at hl 1 rfl) ?_
      exact gg_iret (mm_mv D cl E A ad) C0 hW hS hw dX8_takesOf_62
    · have hw := hw.2 c1
      refine lv_iload hx hb dX8_takesOf_55 (lv_at hl 3 rfl) ?_
      refine lv_ineg hx hb dX8_takesOf_57 ?_
      refine lv_goto (tgt := 62) hx hb dX8_takesOf_58 (by decide) ?_
      exact gg_iret (mm_mv D cl E A ad) C0 hW hS hw dX8_takesOf_62
set_option maxHeartbeats 4000000 in
set_option maxRecDepth 100000 in
theorem mmk_takesOf_127 {p : Program} {l : Launch} {e : Env} {s : State} {m : MethodId} {args : Array Value} {below : List Frame} {meth : Method} {c : Code} {D : va_G} {cl : List vw_C} {E : ClassId × ClassId} {A : Nat → Prop} {ad : Nat → Nat} {Q : Int32 → gg_S → Prop}   (C0 : gg_C p s m args meth c RX8 cX8_takesOf 9 (some .int))  :
    ∀ (x2 : Int32) (s0 : Int32) (σ : gg_S) (H : Heap) (locs : List Loc) (ls : Array Slot), mmw_takesOf_127 Q x2 s0 σ → mm_W D cl E A ad σ s H → va_S A s.heap H locs → lv_has ls 9 [(0, .ref (ad 0)), (2, .int x2)] → W p l e mmr_takesOf s m args below meth c H locs 0 0 (MQ below (va_Qi Q (fun u t => mm_W D cl E A ad u t t.heap) A) args s 0 0 A) (F0 m 127 ls [.int s0]) := by
  obtain ⟨hx, hb, hml, hown, hts, hr, hlocks⟩ := id C0
  intro x2 s0 σ H locs ls hw hW hS hl
  unfold mmw_takesOf_127 at hw
  refine lv_iconst (v := (0 : Int32)) hx hb dX8_takesOf_127 (by decide) ?_
  refine lv_iload_n hx hb dX8_takesOf_128 rfl (lv_at hl 1 rfl) ?_
  refine mm_SI ⟨hx, hb, hml, hown, hts⟩ (mmt_within l _ _ _ _ hw) (va_cwS 3 hts (lw_S q1528 q1529 q120 q1530) rfl rfl rfl cd_X8_within.2 ⟨Nat.le_of_ble_eq_true rfl, Nat.le_of_ble_eq_true rfl⟩) hW hS rfl hl.1 rfl (Nat.le_of_ble_eq_true rfl) dX8_takesOf_129 (fun r6 σ5 H locs hw hW hS => ?_)
  exact gg_iret (mm_mv D cl E A ad) C0 hW hS hw dX8_takesOf_132
set_option maxHeartbeats 4000000 in
set_option maxRecDepth 100000 in
theorem mmk_takesOf_103 {p : Program} {l : Launch} {e : Env} {s : State} {m : MethodId} {args : Array Value} {below : List Frame} {meth : Method} {c : Code} {D : va_G} {cl : List vw_C} {E : ClassId × ClassId} {A : Nat → Prop} {ad : Nat → Nat} {Q : Int32 → gg_S → Prop}   (C0 : gg_C p s m args meth c RX8 cX8_takesOf 9 (some .int))  :
    ∀ (x2 : Int32) (x8 : Int32) (σ : gg_S) (H : Heap) (locs : List Loc) (ls : Array Slot), mmw_takesOf_103 Q x2 x8 σ → mm_W D cl E A ad σ s H → va_S A s.heap H locs → lv_has ls 9 [(0, .ref (ad 0)), (2, .int x2), (8, .int x8)] → W p l e mmr_takesOf s m args below meth c H locs 0 0 (MQ below (va_Qi Q (fun u t => mm_W D cl E A ad u t t.heap) A) args s 0 0 A) (F0 m 103 ls []) := by
  obtain ⟨hx, hb, hml, hown, hts, hr, hlocks⟩ := id C0
  intro x2 x8 σ H locs ls hw hW hS hl
  unfold mmw_takesOf_103 at hw
  refine lv_iload hx hb dX8_takesOf_103 (lv_at hl 2 rfl) ?_
  refine lv_iload_n hx hb dX8_takesOf_105 rfl (lv_at hl 1 rfl) ?_
  refine lv_iconst (v := (2 : Int32)) hx hb dX8_takesOf_106 (by decide) ?_
  refine lv_irem hx hb dX8_takesOf_107 (by decide) ?_
  refine lv_iadd hx hb dX8_takesOf_108 ?_
  refine lv_goto (tgt := 127) hx hb dX8_takesOf_109 (by decide) ?_
  exact mmk_takesOf_127  C0   x2 (x8 + (x2 - x2 / (2 : Int32) * (2 : Int32))) σ _ _ _ hw hW hS (lv_sub hl [0, 1] rfl)
set_option maxHeartbeats 4000000 in
set_option maxRecDepth 100000 in
theorem mmk_takesOf_76 {p : Program} {l : Launch} {e : Env} {s : State} {m : MethodId} {args : Array Value} {below : List Frame} {meth : Method} {c : Code} {D : va_G} {cl : List vw_C} {E : ClassId × ClassId} {A : Nat → Prop} {ad : Nat → Nat} {Q : Int32 → gg_S → Prop}   (C0 : gg_C p s m args meth c RX8 cX8_takesOf 9 (some .int))  :
    ∀ (x2 : Int32) (x3 : Int32) (x4 : Int32) (x5 : Int32) (x6 : Int32) (x7 : Int32) (σ : gg_S) (H : Heap) (locs : List Loc) (ls : Array Slot), mmw_takesOf_76 Q x2 x3 x4 x5 x6 x7 σ → mm_W D cl E A ad σ s H → va_S A s.heap H locs → lv_has ls 9 [(0, .ref (ad 0)), (2, .int x2), (3, .int x3), (4, .int x4), (5, .int x5), (6, .int x6), (7, .int x7)] → W p l e mmr_takesOf s m args below meth c H locs 0 0 (MQ below (va_Qi Q (fun u t => mm_W D cl E A ad u t t.heap) A) args s 0 0 A) (F0 m 76 ls []) := by
  obtain ⟨hx, hb, hml, hown, hts, hr, hlocks⟩ := id C0
  intro x2 x3 x4 x5 x6 x7 σ H locs ls hw hW hS hl
  unfold mmw_takesOf_76 at hw
  refine lv_aload_n hx hb dX8_takesOf_76 rfl (lv_at hl 0 rfl) ?_
  refine lv_iconst (v := (0 : Int32)) hx hb dX8_takesOf_77 (by decide) ?_
  refine lv_iload_n hx hb dX8_takesOf_78 rfl (lv_at hl 1 rfl) ?_
  refine lv_iload_n hx hb dX8_takesOf_79 rfl (lv_at hl 2 rfl) ?_
  refine lv_iload hx hb dX8_takesOf_80 (lv_at hl 5 rfl) ?_
  refine lv_iload hx hb dX8_takesOf_82 (lv_at hl 6 rfl) ?_
  refine lv_iload hx hb dX8_takesOf_84 (lv_at hl 3 rfl) ?_
  refine mm_VI ⟨hx, hb, hml, hown, hts⟩ (mmt_says l _ _ _ _ _ _ _ hw) (cwV 6 hts (lw_V q1454 q1456 qs63 q120 q1457) rfl rfl rfl cd_X8_says ⟨Nat.le_of_ble_eq_true rfl, Nat.le_of_ble_eq_true rfl⟩) hW (mm_recv hW) hS rfl hl.1 rfl (Nat.le_of_ble_eq_true rfl) dX8_takesOf_86 (fun r4 σ3 H locs hw hW hS => ?_)
  refine lv_istore (lv' := [(8, .int r4), (0, .ref (ad 0)), (2, .int x2), (3, .int x3), (4, .int x4), (5, .int x5), (6, .int x6), (7, .int x7)]) hx hb dX8_takesOf_89 hl (by decide) rfl (fun ls hl => ?_)
  refine lv_iload hx hb dX8_takesOf_91 (lv_at hl 5 rfl) ?_
  refine lv_iconst (v := (1 : Int32)) hx hb dX8_takesOf_93 (by decide) ?_
  refine lv_icmp_eq (tgt := 103) hx hb dX8_takesOf_94 (by decide) (fun c9 => ?_) (fun c9 => ?_)
  · have hw := hw.1 c9
    exact mmk_takesOf_103  C0   x2 r4 σ3 _ _ _ hw hW hS (lv_sub hl [1, 2, 0] rfl)
  · have hw := hw.2 c9
    refine lv_iload hx hb dX8_takesOf_97 (lv_at hl 5 rfl) ?_
    refine lv_iconst (v := (3 : Int32)) hx hb dX8_takesOf_99 (by decide) ?_
    refine lv_icmp_ne (tgt := 112) hx hb dX8_takesOf_100 (by decide) (fun c8 => ?_) (fun c8 => ?_)
    · have hw := hw.2 c8
      refine lv_iload hx hb dX8_takesOf_112 (lv_at hl 5 rfl) ?_
      refine lv_iconst (v := (5 : Int32)) hx hb dX8_takesOf_114 (by decide) ?_
      refine lv_icmp_ne (tgt := 125) hx hb dX8_takesOf_115 (by decide) (fun c7 => ?_) (fun c7 => ?_)
      · have hw := hw.2 c7
        refine lv_iload hx hb dX8_takesOf_125 (lv_at hl 0 rfl) ?_
        exact mmk_takesOf_127  C0   x2 r4 σ3 _ _ _ hw hW hS (lv_sub hl [1, 2] rfl)
      · have hw := hw.1 c7
        refine lv_iload hx hb dX8_takesOf_118 (lv_at hl 0 rfl) ?_
        refine lv_iconst (v := (2 : Int32)) hx hb dX8_takesOf_120 (by decide) ?_
        refine lv_idiv hx hb dX8_takesOf_121 (by decide) ?_
        refine lv_goto (tgt := 127) hx hb dX8_takesOf_122 (by decide) ?_
        exact mmk_takesOf_127  C0   x2 (r4 / (2 : Int32)) σ3 _ _ _ hw hW hS (lv_sub hl [1, 2] rfl)
    · have hw := hw.1 c8
      exact mmk_takesOf_103  C0   x2 r4 σ3 _ _ _ hw hW hS (lv_sub hl [1, 2, 0] rfl)
set_option maxHeartbeats 4000000 in
set_option maxRecDepth 100000 in
theorem mmt_takesOf (l : Launch) {D : va_G} {cl : List vw_C} {E : ClassId × ClassId} {A : Nat → Prop} {ad : Nat → Nat}  (a1 : Int32) (a2 : Int32) (a3 : Int32) (a4 : Int32) (σ : gg_S) {Q : Int32 → gg_S → Prop} (hw : mmw_takesOf a1 a2 a3 a4 σ Q) :
    Met l yX8_takesOf (ws_ yX8_takesOf cX8_takesOf 9 (some .int)) mmr_takesOf (va_Pc [.ref (ad 0), .int a1, .int a2, .int a3, .int a4] (fun U => mm_W D cl E A ad σ U U.heap)) (va_Qi Q (fun u t => mm_W D cl E A ad u t t.heap) A) 0 0 A := by
  refine gg_entry (W0 := fun s H => mm_W D cl E A ad σ s H) (by decide) (Nat.le_of_ble_eq_true rfl) ?_
  intro p e s m args below meth c C0 hW ls hl
  have C0 : gg_C p s m args meth c RX8 cX8_takesOf 9 (some .int) := C0
  obtain ⟨hx, hb, hml, hown, hts, hr, hlocks⟩ := id C0
  have hl : lv_has ls 9 [(0, .ref (ad 0)), (1, .int a1), (2, .int a2), (3, .int a3), (4, .int a4)] := hl
  have hS : va_S A s.heap s.heap [] := va_S.rf
  unfold mmw_takesOf at hw
  refine lv_aload_n hx hb dX8_takesOf_0 rfl (lv_at hl 0 rfl) ?_
  refine mm_getr hx hb hts hown hW 10 6 (by decide) q1281 dX8_takesOf_1 ?_
  refine lv_iload_n hx hb dX8_takesOf_4 rfl (lv_at hl 1 rfl) ?_
  obtain ⟨hin, hw⟩ := hw
  refine mm_ald hx hb hW 5 (by decide) hin dX8_takesOf_5 ?_
  refine lv_istore (lv' := [(5, .int (gg_g σ 6 a1.toNatClampNeg)), (0, .ref (ad 0)), (1, .int a1), (2, .int a2), (3, .int a3), (4, .int a4)]) hx hb dX8_takesOf_6 hl (by decide) rfl (fun ls hl => ?_)
  refine lv_aload_n hx hb dX8_takesOf_8 rfl (lv_at hl 1 rfl) ?_
  refine mm_getr hx hb hts hown hW 11 7 (by decide) q1282 dX8_takesOf_9 ?_
  refine lv_iconst (v := (2 : Int32)) hx hb dX8_takesOf_12 (by decide) ?_
  refine lv_iload_n hx hb dX8_takesOf_13 rfl (lv_at hl 2 rfl) ?_
  refine lv_imul hx hb dX8_takesOf_14 ?_
  obtain ⟨hin, hw⟩ := hw
  refine mm_ald hx hb hW 6 (by decide) hin dX8_takesOf_15 ?_
  refine lv_istore (lv' := [(6, .int (gg_g σ 7 ((2 : Int32) * a1).toNatClampNeg)), (5, .int (gg_g σ 6 a1.toNatClampNeg)), (0, .ref (ad 0)), (1, .int a1), (2, .int a2), (3, .int a3), (4, .int a4)]) hx hb dX8_takesOf_16 hl (by decide) rfl (fun ls hl => ?_)
  refine lv_aload_n hx hb dX8_takesOf_18 rfl (lv_at hl 2 rfl) ?_
  refine mm_getr hx hb hts hown hW 11 7 (by decide) q1282 dX8_takesOf_19 ?_
  refine lv_iconst (v := (2 : Int32)) hx hb dX8_takesOf_22 (by decide) ?_
  refine lv_iload_n hx hb dX8_takesOf_23 rfl (lv_at hl 3 rfl) ?_
  refine lv_imul hx hb dX8_takesOf_24 ?_
  refine lv_iconst (v := (1 : Int32)) hx hb dX8_takesOf_25 (by decide) ?_
  refine lv_iadd hx hb dX8_takesOf_26 ?_
  obtain ⟨hin, hw⟩ := hw
  refine mm_ald hx hb hW 6 (by decide) hin dX8_takesOf_27 ?_
  refine lv_istore (lv' := [(7, .int (gg_g σ 7 (((2 : Int32) * a1) + (1 : Int32)).toNatClampNeg)), (6, .int (gg_g σ 7 ((2 : Int32) * a1).toNatClampNeg)), (5, .int (gg_g σ 6 a1.toNatClampNeg)), (0, .ref (ad 0)), (1, .int a1), (2, .int a2), (3, .int a3), (4, .int a4)]) hx hb dX8_takesOf_28 hl (by decide) rfl (fun ls hl => ?_)
  refine lv_iload hx hb dX8_takesOf_30 (lv_at hl 2 rfl) ?_
  refine lv_iconst (v := (2 : Int32)) hx hb dX8_takesOf_32 (by decide) ?_
  refine lv_icmp_eq (tgt := 42) hx hb dX8_takesOf_33 (by decide) (fun c13 => ?_) (fun c13 => ?_)
  · have hw := hw.1 c13
    exact mmk_takesOf_42  C0   a2 (gg_g σ 6 a1.toNatClampNeg) (gg_g σ 7 ((2 : Int32) * a1).toNatClampNeg) (gg_g σ 7 (((2 : Int32) * a1) + (1 : Int32)).toNatClampNeg) σ _ _ _ hw hW hS (lv_sub hl [3, 5, 2, 1, 0] rfl)
  · have hw := hw.2 c13
    refine lv_iload hx hb dX8_takesOf_36 (lv_at hl 2 rfl) ?_
    refine lv_iconst (v := (4 : Int32)) hx hb dX8_takesOf_38 (by decide) ?_
    refine lv_icmp_ne (tgt := 63) hx hb dX8_takesOf_39 (by decide) (fun c12 => ?_) (fun c12 => ?_)
    · have hw := hw.2 c12
      refine lv_iload hx hb dX8_takesOf_63 (lv_at hl 2 rfl) ?_
      refine lv_iconst (v := (3 : Int32)) hx hb dX8_takesOf_65 (by decide) ?_
      refine lv_icmp_ne (tgt := 76) hx hb dX8_takesOf_66 (by decide) (fun c11 => ?_) (fun c11 => ?_)
      · have hw := hw.2 c11
        exact mmk_takesOf_76  C0   a2 a3 a4 (gg_g σ 6 a1.toNatClampNeg) (gg_g σ 7 ((2 : Int32) * a1).toNatClampNeg) (gg_g σ 7 (((2 : Int32) * a1) + (1 : Int32)).toNatClampNeg) σ _ _ _ hw hW hS (lv_sub hl [3, 5, 6, 7, 2, 1, 0] rfl)
      · have hw := hw.1 c11
        refine lv_iload_n hx hb dX8_takesOf_69 rfl (lv_at hl 5 rfl) ?_
        refine lv_iconst (v := (1 : Int32)) hx hb dX8_takesOf_70 (by decide) ?_
        refine lv_icmp_ne (tgt := 76) hx hb dX8_takesOf_71 (by decide) (fun c10 => ?_) (fun c10 => ?_)
        · have hw := hw.2 c10
          exact mmk_takesOf_76  C0   a2 a3 a4 (gg_g σ 6 a1.toNatClampNeg) (gg_g σ 7 ((2 : Int32) * a1).toNatClampNeg) (gg_g σ 7 (((2 : Int32) * a1) + (1 : Int32)).toNatClampNeg) σ _ _ _ hw hW hS (lv_sub hl [3, 5, 6, 7, 2, 1, 0] rfl)
        · have hw := hw.1 c10
          refine lv_iconst (v := (0 : Int32)) hx hb dX8_takesOf_74 (by decide) ?_
          exact gg_iret (mm_mv D cl E A ad) C0 hW hS hw dX8_takesOf_75
    · have hw := hw.1 c12
      exact mmk_takesOf_42  C0   a2 (gg_g σ 6 a1.toNatClampNeg) (gg_g σ 7 ((2 : Int32) * a1).toNatClampNeg) (gg_g σ 7 (((2 : Int32) * a1) + (1 : Int32)).toNatClampNeg) σ _ _ _ hw hW hS (lv_sub hl [3, 5, 2, 1, 0] rfl)
theorem cd_X8_asks : yX8_asks.cls = RX8 ∧ yX8_asks.cls ≠ "java/lang/invoke/MethodHandle" ∧ yX8_asks.cls ≠ "java/lang/invoke/VarHandle" ∧ (parseMethodDescriptor yX8_asks.desc).map (fun d => d.parameters.length) = some 2 := by decide +kernel
/-! GleanersForGapsModel.asks(II)I -/
def mmw_asks  (a1 : Int32) (a2 : Int32) (σ : gg_S) (Q : Int32 → gg_S → Prop) : Prop :=
    (mmw_isOne a1 σ (fun r2 σ1 => (((r2 = 0) → Q (-100 : Int32) σ1) ∧ (¬ (r2 = 0) → (mmw_in ((a2).toInt64) (1 : Int64) (24 : Int64) σ1 (fun r4 σ3 => (((r4 = 0) → Q (-100 : Int32) σ3) ∧ (¬ (r4 = 0) → (mmw_takesOf a1 a2 (0 : Int32) (24 : Int32) σ3 (fun r6 σ5 => Q r6 σ5))))))))))
abbrev mmr_asks : Room := { frames := 51, cells := 0, slots := 0, locals := 1180 }
set_option maxHeartbeats 4000000 in
set_option maxRecDepth 100000 in
theorem mmt_asks (l : Launch) {D : va_G} {cl : List vw_C} {E : ClassId × ClassId} {A : Nat → Prop} {ad : Nat → Nat}  (a1 : Int32) (a2 : Int32) (σ : gg_S) {Q : Int32 → gg_S → Prop} (hw : mmw_asks a1 a2 σ Q) :
    Met l yX8_asks (ws_ yX8_asks cX8_asks 3 (some .int)) mmr_asks (va_Pc [.ref (ad 0), .int a1, .int a2] (fun U => mm_W D cl E A ad σ U U.heap)) (va_Qi Q (fun u t => mm_W D cl E A ad u t t.heap) A) 0 0 A := by
  refine gg_entry (W0 := fun s H => mm_W D cl E A ad σ s H) (by decide) (Nat.le_of_ble_eq_true rfl) ?_
  intro p e s m args below meth c C0 hW ls hl
  have C0 : gg_C p s m args meth c RX8 cX8_asks 3 (some .int) := C0
  obtain ⟨hx, hb, hml, hown, hts, hr, hlocks⟩ := id C0
  have hl : lv_has ls 3 [(0, .ref (ad 0)), (1, .int a1), (2, .int a2)] := hl
  have hS : va_S A s.heap s.heap [] := va_S.rf
  unfold mmw_asks at hw
  refine lv_aload_n hx hb dX8_asks_0 rfl (lv_at hl 0 rfl) ?_
  refine lv_iload_n hx hb dX8_asks_1 rfl (lv_at hl 1 rfl) ?_
  refine mm_VI ⟨hx, hb, hml, hown, hts⟩ (mmt_isOne l _ _ hw) (cwV 1 hts (lw_V q1438 q1440 qs61 q120 q1441) rfl rfl rfl cd_X8_isOne ⟨Nat.le_of_ble_eq_true rfl, Nat.le_of_ble_eq_true rfl⟩) hW (mm_recv hW) hS rfl hl.1 rfl (Nat.le_of_ble_eq_true rfl) dX8_asks_2 (fun r2 σ1 H locs hw hW hS => ?_)
  obtain ⟨hz_r2, hw⟩ := hw
  refine lv_if_eq (tgt := 32) hx hb dX8_asks_5 (by decide) (fun c8 => ?_) (fun c8 => ?_)
  · have hw := hw.1 c8
    refine lv_bipush (v := (-100 : Int32)) hx hb dX8_asks_32 (by decide) ?_
    exact gg_iret (mm_mv D cl E A ad) C0 hW hS hw dX8_asks_34
  · have hw := hw.2 c8
    refine lv_iload_n hx hb dX8_asks_8 rfl (lv_at hl 2 rfl) ?_
    refine lv_i2l (v := (a2).toInt64) hx hb dX8_asks_9 rfl ?_
    refine lv_lconst (v := (1 : Int64)) hx hb dX8_asks_10 (by decide) ?_
    refine lv_ldc2 (own := RX8) (v := (24 : Int64)) hx hb hown (hts _ q1425) dX8_asks_11 ?_
    refine mm_SI ⟨hx, hb, hml, hown, hts⟩ (mmt_in l _ _ _ _ hw) (va_cwS 3 hts (lw_S q1422 q1423 q120 q1424) rfl rfl rfl cd_X8_in.2 ⟨Nat.le_of_ble_eq_true rfl, Nat.le_of_ble_eq_true rfl⟩) hW hS rfl hl.1 rfl (Nat.le_of_ble_eq_true rfl) dX8_asks_14 (fun r4 σ3 H locs hw hW hS => ?_)
    obtain ⟨hz_r4, hw⟩ := hw
    refine lv_if_eq (tgt := 32) hx hb dX8_asks_17 (by decide) (fun c7 => ?_) (fun c7 => ?_)
    · have hw := hw.1 c7
      refine lv_bipush (v := (-100 : Int32)) hx hb dX8_asks_32 (by decide) ?_
      exact gg_iret (mm_mv D cl E A ad) C0 hW hS hw dX8_asks_34
    · have hw := hw.2 c7
      refine lv_aload_n hx hb dX8_asks_20 rfl (lv_at hl 0 rfl) ?_
      refine lv_iload_n hx hb dX8_asks_21 rfl (lv_at hl 1 rfl) ?_
      refine lv_iload_n hx hb dX8_asks_22 rfl (lv_at hl 2 rfl) ?_
      refine lv_iconst (v := (0 : Int32)) hx hb dX8_asks_23 (by decide) ?_
      refine lv_bipush (v := (24 : Int32)) hx hb dX8_asks_24 (by decide) ?_
      refine mm_VI ⟨hx, hb, hml, hown, hts⟩ (mmt_takesOf l _ _ _ _ _ hw) (cwV 4 hts (lw_V q1579 q1581 qs85 q120 q1582) rfl rfl rfl cd_X8_takesOf ⟨Nat.le_of_ble_eq_true rfl, Nat.le_of_ble_eq_true rfl⟩) hW (mm_recv hW) hS rfl hl.1 rfl (Nat.le_of_ble_eq_true rfl) dX8_asks_26 (fun r6 σ5 H locs hw hW hS => ?_)
      refine lv_goto (tgt := 34) hx hb dX8_asks_29 (by decide) ?_
      exact gg_iret (mm_mv D cl E A ad) C0 hW hS hw dX8_asks_34
theorem cd_X8_closes : yX8_closes.cls = RX8 ∧ yX8_closes.cls ≠ "java/lang/invoke/MethodHandle" ∧ yX8_closes.cls ≠ "java/lang/invoke/VarHandle" ∧ (parseMethodDescriptor yX8_closes.desc).map (fun d => d.parameters.length) = some 3 := by decide +kernel
/-! GleanersForGapsModel.closes(III)V -/
def mmw_closes_56  (Q : gg_S → Prop)  (x1 : Int32) (x3 : Int32) (s1 : Int32) (s2 : Int32) (σ : gg_S) : Prop :=
    vp_in s1 5 ∧ (∀ σ1 : gg_S, σ1 = gg_s σ 4 s1.toNatClampNeg s2 → vp_in x1 5 ∧ vp_in x1 5 ∧ (∀ σ2 : gg_S, σ2 = gg_s σ1 5 x1.toNatClampNeg ((gg_g σ1 5 x1.toNatClampNeg) - x3) → Q σ2))
def mmw_closes  (a1 : Int32) (a2 : Int32) (a3 : Int32) (σ : gg_S) (Q : gg_S → Prop) : Prop :=
    vp_in a1 5 ∧ (((0 ≤ a3) → vp_in a1 5 ∧ mmw_closes_56 Q a1 a3 a1 (((gg_g σ 4 a1.toNatClampNeg) &&& (((1 : Int32) <<< (a2 &&& 31)) - (1 : Int32))) ||| (((gg_g σ 4 a1.toNatClampNeg) >>> ((a2 + a3) &&& 31)) <<< (a2 &&& 31))) σ) ∧ (¬ (0 ≤ a3) → vp_in a1 5 ∧ mmw_closes_56 Q a1 a3 a1 (((gg_g σ 4 a1.toNatClampNeg) &&& (((1 : Int32) <<< (a2 &&& 31)) - (1 : Int32))) ||| (((gg_g σ 4 a1.toNatClampNeg) >>> (a2 &&& 31)) <<< ((a2 - a3) &&& 31))) σ))
abbrev mmr_closes : Room := { frames := 0, cells := 0, slots := 0, locals := 0 }
set_option maxHeartbeats 4000000 in
set_option maxRecDepth 100000 in
theorem mmk_closes_56 {p : Program} {l : Launch} {e : Env} {s : State} {m : MethodId} {args : Array Value} {below : List Frame} {meth : Method} {c : Code} {D : va_G} {cl : List vw_C} {E : ClassId × ClassId} {A : Nat → Prop} {ad : Nat → Nat} {Q : gg_S → Prop}   (C0 : gg_C p s m args meth c RX8 cX8_closes 5 none)  :
    ∀ (x1 : Int32) (x3 : Int32) (s1 : Int32) (s2 : Int32) (σ : gg_S) (H : Heap) (locs : List Loc) (ls : Array Slot), mmw_closes_56 Q x1 x3 s1 s2 σ → mm_W D cl E A ad σ s H → va_S A s.heap H locs → lv_has ls 5 [(0, .ref (ad 0)), (1, .int x1), (3, .int x3)] → W p l e mmr_closes s m args below meth c H locs 0 0 (MQ below (va_Qv Q (fun u t => mm_W D cl E A ad u t t.heap) A) args s 0 0 A) (F0 m 56 ls [.int s2, .int s1, .ref (ad 4)]) := by
  obtain ⟨hx, hb, hml, hown, hts, hr, hlocks⟩ := id C0
  intro x1 x3 s1 s2 σ H locs ls hw hW hS hl
  unfold mmw_closes_56 at hw
  obtain ⟨hin, hw⟩ := hw
  refine mm_ast hx hb hW hS 3 (by decide) hin dX8_closes_56 (fun H locs hW hS => ?_)
  obtain ⟨σ1, eσ1⟩ : ∃ z, z = gg_s σ 4 s1.toNatClampNeg s2 := ⟨_, rfl⟩
  rw [← eσ1] at hW
  have hw := hw σ1 eσ1
  refine lv_aload_n hx hb dX8_closes_57 rfl (lv_at hl 0 rfl) ?_
  refine mm_getr hx hb hts hown hW 9 5 (by decide) q1280 dX8_closes_58 ?_
  refine lv_iload_n hx hb dX8_closes_61 rfl (lv_at hl 1 rfl) ?_
  refine lv_dup2_11 hx hb dX8_closes_62 rfl rfl ?_
  obtain ⟨hin, hw⟩ := hw
  refine mm_ald hx hb hW 4 (by decide) hin dX8_closes_63 ?_
  refine lv_iload_n hx hb dX8_closes_64 rfl (lv_at hl 2 rfl) ?_
  refine lv_isub hx hb dX8_closes_65 ?_
  obtain ⟨hin, hw⟩ := hw
  refine mm_ast hx hb hW hS 4 (by decide) hin dX8_closes_66 (fun H locs hW hS => ?_)
  obtain ⟨σ2, eσ2⟩ : ∃ z, z = gg_s σ1 5 x1.toNatClampNeg ((gg_g σ1 5 x1.toNatClampNeg) - x3) := ⟨_, rfl⟩
  rw [← eσ2] at hW
  have hw := hw σ2 eσ2
  exact gg_vret (mm_mv D cl E A ad) C0 hW hS hw dX8_closes_67
set_option maxHeartbeats 4000000 in
set_option maxRecDepth 100000 in
theorem mmt_closes (l : Launch) {D : va_G} {cl : List vw_C} {E : ClassId × ClassId} {A : Nat → Prop} {ad : Nat → Nat}  (a1 : Int32) (a2 : Int32) (a3 : Int32) (σ : gg_S) {Q : gg_S → Prop} (hw : mmw_closes a1 a2 a3 σ Q) :
    Met l yX8_closes (ws_ yX8_closes cX8_closes 5 none) mmr_closes (va_Pc [.ref (ad 0), .int a1, .int a2, .int a3] (fun U => mm_W D cl E A ad σ U U.heap)) (va_Qv Q (fun u t => mm_W D cl E A ad u t t.heap) A) 0 0 A := by
  refine gg_entry (W0 := fun s H => mm_W D cl E A ad σ s H) (by decide) (Nat.le_of_ble_eq_true rfl) ?_
  intro p e s m args below meth c C0 hW ls hl
  have C0 : gg_C p s m args meth c RX8 cX8_closes 5 none := C0
  obtain ⟨hx, hb, hml, hown, hts, hr, hlocks⟩ := id C0
  have hl : lv_has ls 5 [(0, .ref (ad 0)), (1, .int a1), (2, .int a2), (3, .int a3)] := hl
  have hS : va_S A s.heap s.heap [] := va_S.rf
  unfold mmw_closes at hw
  refine lv_aload_n hx hb dX8_closes_0 rfl (lv_at hl 0 rfl) ?_
  refine mm_getr hx hb hts hown hW 8 4 (by decide) q1279 dX8_closes_1 ?_
  refine lv_iload_n hx hb dX8_closes_4 rfl (lv_at hl 1 rfl) ?_
  obtain ⟨hin, hw⟩ := hw
  refine mm_ald hx hb hW 3 (by decide) hin dX8_closes_5 ?_
  refine lv_iconst (v := (1 : Int32)) hx hb dX8_closes_6 (by decide) ?_
  refine lv_iload_n hx hb dX8_closes_7 rfl (lv_at hl 2 rfl) ?_
  refine lv_ishl hx hb dX8_closes_8 ?_
  refine lv_iconst (v := (1 : Int32)) hx hb dX8_closes_9 (by decide) ?_
  refine lv_isub hx hb dX8_closes_10 ?_
  refine lv_iand hx hb dX8_closes_11 ?_
  refine lv_istore (lv' := [(4, .int ((gg_g σ 4 a1.toNatClampNeg) &&& (((1 : Int32) <<< (a2 &&& 31)) - (1 : Int32)))), (0, .ref (ad 0)), (1, .int a1), (2, .int a2), (3, .int a3)]) hx hb dX8_closes_12 hl (by decide) rfl (fun ls hl => ?_)
  refine lv_aload_n hx hb dX8_closes_14 rfl (lv_at hl 1 rfl) ?_
  refine mm_getr hx hb hts hown hW 8 4 (by decide) q1279 dX8_closes_15 ?_
  refine lv_iload_n hx hb dX8_closes_18 rfl (lv_at hl 2 rfl) ?_
  refine lv_iload_n hx hb dX8_closes_19 rfl (lv_at hl 4 rfl) ?_
  refine lv_if_ge (tgt := 41) hx hb dX8_closes_20 (by decide) (fun c3 => ?_) (fun c3 => ?_)
  · have hw := hw.1 c3
    refine lv_iload hx hb dX8_closes_41 (lv_at hl 0 rfl) ?_
    refine lv_aload_n hx hb dX8_closes_43 rfl (lv_at hl 1 rfl) ?_
    refine mm_getr hx hb hts hown hW 8 4 (by decide) q1279 dX8_closes_44 ?_
    refine lv_iload_n hx hb dX8_closes_47 rfl (lv_at hl 2 rfl) ?_
    obtain ⟨hin, hw⟩ := hw
    refine mm_ald hx hb hW 3 (by decide) hin dX8_closes_48 ?_
    refine lv_iload_n hx hb dX8_closes_49 rfl (lv_at hl 3 rfl) ?_
    refine lv_iload_n hx hb dX8_closes_50 rfl (lv_at hl 4 rfl) ?_
    refine lv_iadd hx hb dX8_closes_51 ?_
    refine lv_ishr hx hb dX8_closes_52 ?_
    refine lv_iload_n hx hb dX8_closes_53 rfl (lv_at hl 3 rfl) ?_
    refine lv_ishl hx hb dX8_closes_54 ?_
    refine lv_ior hx hb dX8_closes_55 ?_
    exact mmk_closes_56  C0   a1 a3 a1 (((gg_g σ 4 a1.toNatClampNeg) &&& (((1 : Int32) <<< (a2 &&& 31)) - (1 : Int32))) ||| (((gg_g σ 4 a1.toNatClampNeg) >>> ((a2 + a3) &&& 31)) <<< (a2 &&& 31))) σ _ _ _ hw hW hS (lv_sub hl [1, 2, 4] rfl)
  · have hw := hw.2 c3
    refine lv_iload hx hb dX8_closes_23 (lv_at hl 0 rfl) ?_
    refine lv_aload_n hx hb dX8_closes_25 rfl (lv_at hl 1 rfl) ?_
    refine mm_getr hx hb hts hown hW 8 4 (by decide) q1279 dX8_closes_26 ?_
    refine lv_iload_n hx hb dX8_closes_29 rfl (lv_at hl 2 rfl) ?_
    obtain ⟨hin, hw⟩ := hw
    refine mm_ald hx hb hW 3 (by decide) hin dX8_closes_30 ?_
    refine lv_iload_n hx hb dX8_closes_31 rfl (lv_at hl 3 rfl) ?_
    refine lv_ishr hx hb dX8_closes_32 ?_
    refine lv_iload_n hx hb dX8_closes_33 rfl (lv_at hl 3 rfl) ?_
    refine lv_iload_n hx hb dX8_closes_34 rfl (lv_at hl 4 rfl) ?_
    refine lv_isub hx hb dX8_closes_35 ?_
    refine lv_ishl hx hb dX8_closes_36 ?_
    refine lv_ior hx hb dX8_closes_37 ?_
    refine lv_goto (tgt := 56) hx hb dX8_closes_38 (by decide) ?_
    exact mmk_closes_56  C0   a1 a3 a1 (((gg_g σ 4 a1.toNatClampNeg) &&& (((1 : Int32) <<< (a2 &&& 31)) - (1 : Int32))) ||| (((gg_g σ 4 a1.toNatClampNeg) >>> (a2 &&& 31)) <<< ((a2 - a3) &&& 31))) σ _ _ _ hw hW hS (lv_sub hl [1, 2, 4] rfl)
theorem cd_X8_gleans : yX8_gleans.cls = RX8 ∧ yX8_gleans.cls ≠ "java/lang/invoke/MethodHandle" ∧ yX8_gleans.cls ≠ "java/lang/invoke/VarHandle" ∧ (parseMethodDescriptor yX8_gleans.desc).map (fun d => d.parameters.length) = some 2 := by decide +kernel
/-! GleanersForGapsModel.gleans(II)I -/
def mmw_gleans_67  (Q : Int32 → gg_S → Prop) (K12 : Int32 → Int32 → Int32 → Int32 → Int32 → gg_S → Prop) (x1 : Int32) (x2 : Int32) (x3 : Int32) (x4 : Int32) (x5 : Int32) (s0 : Int32) (σ : gg_S) : Prop :=
    vp_in x5 24 ∧ (mmw_closes x2 ((gg_g σ 8 x5.toNatClampNeg) - x4) s0 σ (fun σ5 => vp_in (((2 : Int32) * x1) + (1 : Int32)) 10 ∧ (mmw_within ((gg_g σ5 7 (((2 : Int32) * x1) + (1 : Int32)).toNatClampNeg) + s0) (0 : Int32) (999 : Int32) σ5 (fun r7 σ6 => vp_in (((2 : Int32) * x1) + (1 : Int32)) 10 ∧ (∀ σ8 : gg_S, σ8 = gg_s σ6 7 (((2 : Int32) * x1) + (1 : Int32)).toNatClampNeg r7 → vp_in x5 24 ∧ (∀ σ9 : gg_S, σ9 = gg_s σ8 10 x5.toNatClampNeg s0 → K12 x1 x2 x3 (x4 + s0) (x5 + (1 : Int32)) σ9))))))
def mmw_gleans_12  (Q : Int32 → gg_S → Prop)  : Nat → Int32 → Int32 → Int32 → Int32 → Int32 → gg_S → Prop
  | 0, _, _, _, _, _, _ => False
  | n + 1, x1, x2, x3, x4, x5, σ =>
    (((x3 ≤ x5) → Q x4 σ) ∧ (¬ (x3 ≤ x5) → vp_in x5 24 ∧ vp_in x2 5 ∧ (mmw_takesOf x1 (gg_g σ 9 x5.toNatClampNeg) x5 (gg_g σ 5 x2.toNatClampNeg) σ (fun r4 σ3 => vp_in x2 5 ∧ ((((-((24 : Int32) - (gg_g σ3 5 x2.toNatClampNeg))) ≤ r4) → mmw_gleans_67 Q (fun y0 y1 y2 y3 y4 τ => mmw_gleans_12 Q n y0 y1 y2 y3 y4 τ) x1 x2 x3 x4 x5 r4 σ3) ∧ (¬ ((-((24 : Int32) - (gg_g σ3 5 x2.toNatClampNeg))) ≤ r4) → mmw_gleans_67 Q (fun y0 y1 y2 y3 y4 τ => mmw_gleans_12 Q n y0 y1 y2 y3 y4 τ) x1 x2 x3 x4 x5 (-((24 : Int32) - (gg_g σ3 5 x2.toNatClampNeg))) σ3))))))
def mmw_gleans  (a1 : Int32) (a2 : Int32) (σ : gg_S) (Q : Int32 → gg_S → Prop) : Prop :=
    (mmw_runsOf a2 σ (fun r2 σ1 => ∃ k9, mmw_gleans_12 Q k9 a1 a2 r2 (0 : Int32) (0 : Int32) σ1))
abbrev mmr_gleans : Room := { frames := 51, cells := 0, slots := 0, locals := 1180 }
set_option maxHeartbeats 4000000 in
set_option maxRecDepth 100000 in
theorem mmk_gleans_67 {p : Program} {l : Launch} {e : Env} {s : State} {m : MethodId} {args : Array Value} {below : List Frame} {meth : Method} {c : Code} {D : va_G} {cl : List vw_C} {E : ClassId × ClassId} {A : Nat → Prop} {ad : Nat → Nat} {Q : Int32 → gg_S → Prop} {K12 : Int32 → Int32 → Int32 → Int32 → Int32 → gg_S → Prop}  (C0 : gg_C p s m args meth c RX8 cX8_gleans 8 (some .int)) (hK12 : ∀ (x1 : Int32) (x2 : Int32) (x3 : Int32) (x4 : Int32) (x5 : Int32) (σ : gg_S) (H : Heap) (locs : List Loc) (ls : Array Slot), K12 x1 x2 x3 x4 x5 σ → mm_W D cl E A ad σ s H → va_S A s.heap H locs → lv_has ls 8 [(0, .ref (ad 0)), (1, .int x1), (2, .int x2), (3, .int x3), (4, .int x4), (5, .int x5)] → W p l e mmr_gleans s m args below meth c H locs 0 0 (MQ below (va_Qi Q (fun u t => mm_W D cl E A ad u t t.heap) A) args s 0 0 A) (F0 m 12 ls [])) :
    ∀ (x1 : Int32) (x2 : Int32) (x3 : Int32) (x4 : Int32) (x5 : Int32) (s0 : Int32) (σ : gg_S) (H : Heap) (locs : List Loc) (ls : Array Slot), mmw_gleans_67 Q K12 x1 x2 x3 x4 x5 s0 σ → mm_W D cl E A ad σ s H → va_S A s.heap H locs → lv_has ls 8 [(0, .ref (ad 0)), (1, .int x1), (2, .int x2), (3, .int x3), (4, .int x4), (5, .int x5)] → W p l e mmr_gleans s m args below meth c H locs 0 0 (MQ below (va_Qi Q (fun u t => mm_W D cl E A ad u t t.heap) A) args s 0 0 A) (F0 m 67 ls [.int s0]) := by
  obtain ⟨hx, hb, hml, hown, hts, hr, hlocks⟩ := id C0
  intro x1 x2 x3 x4 x5 s0 σ H locs ls hw hW hS hl
  unfold mmw_gleans_67 at hw
  refine lv_istore (lv' := [(6, .int s0), (0, .ref (ad 0)), (1, .int x1), (2, .int x2), (3, .int x3), (4, .int x4), (5, .int x5)]) hx hb dX8_gleans_67 hl (by decide) rfl (fun ls hl => ?_)
  refine lv_aload_n hx hb dX8_gleans_69 rfl (lv_at hl 1 rfl) ?_
  refine lv_iload_n hx hb dX8_gleans_70 rfl (lv_at hl 3 rfl) ?_
  refine lv_aload_n hx hb dX8_gleans_71 rfl (lv_at hl 1 rfl) ?_
  refine mm_getr hx hb hts hown hW 28 8 (by decide) q1299 dX8_gleans_72 ?_
  refine lv_iload hx hb dX8_gleans_75 (lv_at hl 6 rfl) ?_
  obtain ⟨hin, hw⟩ := hw
  refine mm_ald hx hb hW 7 (by decide) hin dX8_gleans_77 ?_
  refine lv_iload hx hb dX8_gleans_78 (lv_at hl 5 rfl) ?_
  refine lv_isub hx hb dX8_gleans_80 ?_
  refine lv_iload hx hb dX8_gleans_81 (lv_at hl 0 rfl) ?_
  refine mm_VV ⟨hx, hb, hml, hown, hts⟩ (mmt_closes l _ _ _ _ hw) (cwV 3 hts (lw_V q1591 q1593 qs87 q120 q1594) rfl rfl rfl cd_X8_closes ⟨Nat.le_of_ble_eq_true rfl, Nat.le_of_ble_eq_true rfl⟩) hW (mm_recv hW) hS rfl hl.1 rfl (Nat.le_of_ble_eq_true rfl) dX8_gleans_83 (fun σ5 H locs hw hW hS => ?_)
  refine lv_aload_n hx hb dX8_gleans_86 rfl (lv_at hl 1 rfl) ?_
  refine mm_getr hx hb hts hown hW 11 7 (by decide) q1282 dX8_gleans_87 ?_
  refine lv_iconst (v := (2 : Int32)) hx hb dX8_gleans_90 (by decide) ?_
  refine lv_iload_n hx hb dX8_gleans_91 rfl (lv_at hl 2 rfl) ?_
  refine lv_imul hx hb dX8_gleans_92 ?_
  refine lv_iconst (v := (1 : Int32)) hx hb dX8_gleans_93 (by decide) ?_
  refine lv_iadd hx hb dX8_gleans_94 ?_
  refine lv_aload_n hx hb dX8_gleans_95 rfl (lv_at hl 1 rfl) ?_
  refine mm_getr hx hb hts hown hW 11 7 (by decide) q1282 dX8_gleans_96 ?_
  refine lv_iconst (v := (2 : Int32)) hx hb dX8_gleans_99 (by decide) ?_
  refine lv_iload_n hx hb dX8_gleans_100 rfl (lv_at hl 2 rfl) ?_
  refine lv_imul hx hb dX8_gleans_101 ?_
  refine lv_iconst (v := (1 : Int32)) hx hb dX8_gleans_102 (by decide) ?_
  refine lv_iadd hx hb dX8_gleans_103 ?_
  obtain ⟨hin, hw⟩ := hw
  refine mm_ald hx hb hW 6 (by decide) hin dX8_gleans_104 ?_
  refine lv_iload hx hb dX8_gleans_105 (lv_at hl 0 rfl) ?_
  refine lv_iadd hx hb dX8_gleans_107 ?_
  refine lv_iconst (v := (0 : Int32)) hx hb dX8_gleans_108 (by decide) ?_
  refine lv_sipush (v := (999 : Int32)) hx hb dX8_gleans_109 (by decide) ?_
  refine mm_SI ⟨hx, hb, hml, hown, hts⟩ (mmt_within l _ _ _ _ hw) (va_cwS 3 hts (lw_S q1528 q1529 q120 q1530) rfl rfl rfl cd_X8_within.2 ⟨Nat.le_of_ble_eq_true rfl, Nat.le_of_ble_eq_true rfl⟩) hW hS rfl hl.1 rfl (Nat.le_of_ble_eq_true rfl) dX8_gleans_112 (fun r7 σ6 H locs hw hW hS => ?_)
  obtain ⟨hin, hw⟩ := hw
  refine mm_ast hx hb hW hS 6 (by decide) hin dX8_gleans_115 (fun H locs hW hS => ?_)
  obtain ⟨σ8, eσ8⟩ : ∃ z, z = gg_s σ6 7 (((2 : Int32) * x1) + (1 : Int32)).toNatClampNeg r7 := ⟨_, rfl⟩
  rw [← eσ8] at hW
  have hw := hw σ8 eσ8
  refine lv_aload_n hx hb dX8_gleans_116 rfl (lv_at hl 1 rfl) ?_
  refine mm_getr hx hb hts hown hW 30 10 (by decide) q1301 dX8_gleans_117 ?_
  refine lv_iload hx hb dX8_gleans_120 (lv_at hl 6 rfl) ?_
  refine lv_iload hx hb dX8_gleans_122 (lv_at hl 0 rfl) ?_
  obtain ⟨hin, hw⟩ := hw
  refine mm_ast hx hb hW hS 9 (by decide) hin dX8_gleans_124 (fun H locs hW hS => ?_)
  obtain ⟨σ9, eσ9⟩ : ∃ z, z = gg_s σ8 10 x5.toNatClampNeg s0 := ⟨_, rfl⟩
  rw [← eσ9] at hW
  have hw := hw σ9 eσ9
  refine lv_iload hx hb dX8_gleans_125 (lv_at hl 5 rfl) ?_
  refine lv_iload hx hb dX8_gleans_127 (lv_at hl 0 rfl) ?_
  refine lv_iadd hx hb dX8_gleans_129 ?_
  refine lv_istore (lv' := [(4, .int (x4 + s0)), (6, .int s0), (0, .ref (ad 0)), (1, .int x1), (2, .int x2), (3, .int x3), (5, .int x5)]) hx hb dX8_gleans_130 hl (by decide) rfl (fun ls hl => ?_)
  refine lv_iinc (v := (x5 + (1 : Int32))) (lv' := [(5, .int (x5 + (1 : Int32))), (4, .int (x4 + s0)), (6, .int s0), (0, .ref (ad 0)), (1, .int x1), (2, .int x2), (3, .int x3)]) hx hb dX8_gleans_132 hl (k := 6) rfl rfl (by decide) rfl (fun ls hl => ?_)
  refine lv_goto (tgt := 12) hx hb dX8_gleans_135 (by decide) ?_
  exact hK12 x1 x2 x3 (x4 + s0) (x5 + (1 : Int32)) σ9 _ _ _ hw hW hS (lv_sub hl [3, 4, 5, 6, 1, 0] rfl)
set_option maxHeartbeats 4000000 in
set_option maxRecDepth 100000 in
theorem mmk_gleans_12 {p : Program} {l : Launch} {e : Env} {s : State} {m : MethodId} {args : Array Value} {below : List Frame} {meth : Method} {c : Code} {D : va_G} {cl : List vw_C} {E : ClassId × ClassId} {A : Nat → Prop} {ad : Nat → Nat} {Q : Int32 → gg_S → Prop}   (C0 : gg_C p s m args meth c RX8 cX8_gleans 8 (some .int))  :
    ∀ n : Nat, ∀ (x1 : Int32) (x2 : Int32) (x3 : Int32) (x4 : Int32) (x5 : Int32) (σ : gg_S) (H : Heap) (locs : List Loc) (ls : Array Slot), mmw_gleans_12 Q n x1 x2 x3 x4 x5 σ → mm_W D cl E A ad σ s H → va_S A s.heap H locs → lv_has ls 8 [(0, .ref (ad 0)), (1, .int x1), (2, .int x2), (3, .int x3), (4, .int x4), (5, .int x5)] → W p l e mmr_gleans s m args below meth c H locs 0 0 (MQ below (va_Qi Q (fun u t => mm_W D cl E A ad u t t.heap) A) args s 0 0 A) (F0 m 12 ls []) := by
  obtain ⟨hx, hb, hml, hown, hts, hr, hlocks⟩ := id C0
  intro n
  induction n with
  | zero =>
    intro x1 x2 x3 x4 x5 σ H locs ls hw hW hS hl
    exact absurd hw (by unfold mmw_gleans_12; exact id)
  | succ n ih =>
    intro x1 x2 x3 x4 x5 σ H locs ls hw hW hS hl
    unfold mmw_gleans_12 at hw
    refine lv_iload hx hb dX8_gleans_12 (lv_at hl 5 rfl) ?_
    refine lv_iload_n hx hb dX8_gleans_14 rfl (lv_at hl 3 rfl) ?_
    refine lv_icmp_ge (tgt := 138) hx hb dX8_gleans_15 (by decide) (fun c11 => ?_) (fun c11 => ?_)
    · have hw := hw.1 c11
      refine lv_iload hx hb dX8_gleans_138 (lv_at hl 4 rfl) ?_
      exact gg_iret (mm_mv D cl E A ad) C0 hW hS hw dX8_gleans_140
    · have hw := hw.2 c11
      refine lv_aload_n hx hb dX8_gleans_18 rfl (lv_at hl 0 rfl) ?_
      refine lv_iload_n hx hb dX8_gleans_19 rfl (lv_at hl 1 rfl) ?_
      refine lv_aload_n hx hb dX8_gleans_20 rfl (lv_at hl 0 rfl) ?_
      refine mm_getr hx hb hts hown hW 29 9 (by decide) q1300 dX8_gleans_21 ?_
      refine lv_iload hx hb dX8_gleans_24 (lv_at hl 5 rfl) ?_
      obtain ⟨hin, hw⟩ := hw
      refine mm_ald hx hb hW 8 (by decide) hin dX8_gleans_26 ?_
      refine lv_iload hx hb dX8_gleans_27 (lv_at hl 5 rfl) ?_
      refine lv_aload_n hx hb dX8_gleans_29 rfl (lv_at hl 0 rfl) ?_
      refine mm_getr hx hb hts hown hW 9 5 (by decide) q1280 dX8_gleans_30 ?_
      refine lv_iload_n hx hb dX8_gleans_33 rfl (lv_at hl 2 rfl) ?_
      obtain ⟨hin, hw⟩ := hw
      refine mm_ald hx hb hW 4 (by decide) hin dX8_gleans_34 ?_
      refine mm_VI ⟨hx, hb, hml, hown, hts⟩ (mmt_takesOf l _ _ _ _ _ hw) (cwV 4 hts (lw_V q1579 q1581 qs85 q120 q1582) rfl rfl rfl cd_X8_takesOf ⟨Nat.le_of_ble_eq_true rfl, Nat.le_of_ble_eq_true rfl⟩) hW (mm_recv hW) hS rfl hl.1 rfl (Nat.le_of_ble_eq_true rfl) dX8_gleans_35 (fun r4 σ3 H locs hw hW hS => ?_)
      refine lv_istore (lv' := [(6, .int r4), (0, .ref (ad 0)), (1, .int x1), (2, .int x2), (3, .int x3), (4, .int x4), (5, .int x5)]) hx hb dX8_gleans_38 hl (by decide) rfl (fun ls hl => ?_)
      refine lv_bipush (v := (24 : Int32)) hx hb dX8_gleans_40 (by decide) ?_
      refine lv_aload_n hx hb dX8_gleans_42 rfl (lv_at hl 1 rfl) ?_
      refine mm_getr hx hb hts hown hW 9 5 (by decide) q1280 dX8_gleans_43 ?_
      refine lv_iload_n hx hb dX8_gleans_46 rfl (lv_at hl 3 rfl) ?_
      obtain ⟨hin, hw⟩ := hw
      refine mm_ald hx hb hW 4 (by decide) hin dX8_gleans_47 ?_
      refine lv_isub hx hb dX8_gleans_48 ?_
      refine lv_istore (lv' := [(7, .int ((24 : Int32) - (gg_g σ3 5 x2.toNatClampNeg))), (6, .int r4), (0, .ref (ad 0)), (1, .int x1), (2, .int x2), (3, .int x3), (4, .int x4), (5, .int x5)]) hx hb dX8_gleans_49 hl (by decide) rfl (fun ls hl => ?_)
      refine lv_iload hx hb dX8_gleans_51 (lv_at hl 1 rfl) ?_
      refine lv_iload hx hb dX8_gleans_53 (lv_at hl 0 rfl) ?_
      refine lv_ineg hx hb dX8_gleans_55 ?_
      refine lv_icmp_ge (tgt := 65) hx hb dX8_gleans_56 (by decide) (fun c10 => ?_) (fun c10 => ?_)
      · have hw := hw.1 c10
        refine lv_iload hx hb dX8_gleans_65 (lv_at hl 1 rfl) ?_
        exact mmk_gleans_67  C0  (fun y0 y1 y2 y3 y4 τ H9 l9 s9 => ih y0 y1 y2 y3 y4 τ H9 l9 s9) x1 x2 x3 x4 x5 r4 σ3 _ _ _ hw hW hS (lv_sub hl [2, 3, 4, 5, 6, 7] rfl)
      · have hw := hw.2 c10
        refine lv_iload hx hb dX8_gleans_59 (lv_at hl 0 rfl) ?_
        refine lv_ineg hx hb dX8_gleans_61 ?_
        refine lv_goto (tgt := 67) hx hb dX8_gleans_62 (by decide) ?_
        exact mmk_gleans_67  C0  (fun y0 y1 y2 y3 y4 τ H9 l9 s9 => ih y0 y1 y2 y3 y4 τ H9 l9 s9) x1 x2 x3 x4 x5 (-((24 : Int32) - (gg_g σ3 5 x2.toNatClampNeg))) σ3 _ _ _ hw hW hS (lv_sub hl [2, 3, 4, 5, 6, 7] rfl)
set_option maxHeartbeats 4000000 in
set_option maxRecDepth 100000 in
theorem mmt_gleans (l : Launch) {D : va_G} {cl : List vw_C} {E : ClassId × ClassId} {A : Nat → Prop} {ad : Nat → Nat}  (a1 : Int32) (a2 : Int32) (σ : gg_S) {Q : Int32 → gg_S → Prop} (hw : mmw_gleans a1 a2 σ Q) :
    Met l yX8_gleans (ws_ yX8_gleans cX8_gleans 8 (some .int)) mmr_gleans (va_Pc [.ref (ad 0), .int a1, .int a2] (fun U => mm_W D cl E A ad σ U U.heap)) (va_Qi Q (fun u t => mm_W D cl E A ad u t t.heap) A) 0 0 A := by
  refine gg_entry (W0 := fun s H => mm_W D cl E A ad σ s H) (by decide) (Nat.le_of_ble_eq_true rfl) ?_
  intro p e s m args below meth c C0 hW ls hl
  have C0 : gg_C p s m args meth c RX8 cX8_gleans 8 (some .int) := C0
  obtain ⟨hx, hb, hml, hown, hts, hr, hlocks⟩ := id C0
  have hl : lv_has ls 8 [(0, .ref (ad 0)), (1, .int a1), (2, .int a2)] := hl
  have hS : va_S A s.heap s.heap [] := va_S.rf
  unfold mmw_gleans at hw
  refine lv_aload_n hx hb dX8_gleans_0 rfl (lv_at hl 0 rfl) ?_
  refine lv_iload_n hx hb dX8_gleans_1 rfl (lv_at hl 2 rfl) ?_
  refine mm_VI ⟨hx, hb, hml, hown, hts⟩ (mmt_runsOf l _ _ hw) (cwV 1 hts (lw_V q1531 q1533 qs80 q120 q1534) rfl rfl rfl cd_X8_runsOf ⟨Nat.le_of_ble_eq_true rfl, Nat.le_of_ble_eq_true rfl⟩) hW (mm_recv hW) hS rfl hl.1 rfl (Nat.le_of_ble_eq_true rfl) dX8_gleans_2 (fun r2 σ1 H locs hw hW hS => ?_)
  refine lv_istore_n (lv' := [(3, .int r2), (0, .ref (ad 0)), (1, .int a1), (2, .int a2)]) hx hb dX8_gleans_5 rfl hl (by decide) rfl (fun ls hl => ?_)
  refine lv_iconst (v := (0 : Int32)) hx hb dX8_gleans_6 (by decide) ?_
  refine lv_istore (lv' := [(4, .int (0 : Int32)), (3, .int r2), (0, .ref (ad 0)), (1, .int a1), (2, .int a2)]) hx hb dX8_gleans_7 hl (by decide) rfl (fun ls hl => ?_)
  refine lv_iconst (v := (0 : Int32)) hx hb dX8_gleans_9 (by decide) ?_
  refine lv_istore (lv' := [(5, .int (0 : Int32)), (4, .int (0 : Int32)), (3, .int r2), (0, .ref (ad 0)), (1, .int a1), (2, .int a2)]) hx hb dX8_gleans_10 hl (by decide) rfl (fun ls hl => ?_)
  obtain ⟨n9, hw⟩ := hw
  exact mmk_gleans_12  C0   n9 a1 a2 r2 (0 : Int32) (0 : Int32) σ1 _ _ _ hw hW hS (lv_sub hl [3, 4, 5, 2, 1, 0] rfl)
