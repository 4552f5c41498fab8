theorem cd_X8_spell : yX8_spell.cls = RX8 ∧ yX8_spell.cls ≠ "java/lang/invoke/MethodHandle" ∧ yX8_spell.cls ≠ "java/lang/invoke/VarHandle" ∧ (parseMethodDescriptor yX8_spell.desc).map (fun d => d.parameters.length) = some 9 := by decide +kernel
/-! GleanersForGapsModel.spell(IIIIIIIII)V -/
def mmw_spell  (a1 : Int32) (a2 : Int32) (a3 : Int32) (a4 : Int32) (a5 : Int32) (a6 : Int32) (a7 : Int32) (a8 : Int32) (a9 : Int32) (σ : gg_S) (Q : gg_S → Prop) : Prop :=
    vp_in a1 960 ∧ (∀ σ1 : gg_S, σ1 = gg_s σ 1 a1.toNatClampNeg a2 → vp_in (a1 + (1 : Int32)) 960 ∧ (∀ σ2 : gg_S, σ2 = gg_s σ1 1 (a1 + (1 : Int32)).toNatClampNeg a3 → vp_in (a1 + (2 : Int32)) 960 ∧ (∀ σ3 : gg_S, σ3 = gg_s σ2 1 (a1 + (2 : Int32)).toNatClampNeg a4 → vp_in (a1 + (3 : Int32)) 960 ∧ (∀ σ4 : gg_S, σ4 = gg_s σ3 1 (a1 + (3 : Int32)).toNatClampNeg a5 → vp_in (a1 + (4 : Int32)) 960 ∧ (∀ σ5 : gg_S, σ5 = gg_s σ4 1 (a1 + (4 : Int32)).toNatClampNeg a6 → vp_in (a1 + (5 : Int32)) 960 ∧ (∀ σ6 : gg_S, σ6 = gg_s σ5 1 (a1 + (5 : Int32)).toNatClampNeg a7 → vp_in (a1 + (6 : Int32)) 960 ∧ (∀ σ7 : gg_S, σ7 = gg_s σ6 1 (a1 + (6 : Int32)).toNatClampNeg a8 → vp_in (a1 + (7 : Int32)) 960 ∧ (∀ σ8 : gg_S, σ8 = gg_s σ7 1 (a1 + (7 : Int32)).toNatClampNeg a9 → Q σ8))))))))
abbrev mmr_spell : Room := { frames := 0, cells := 0, slots := 0, locals := 0 }
set_option maxHeartbeats 4000000 in
set_option maxRecDepth 100000 in
theorem mmt_spell (l : Launch) {D : va_G} {cl : List vw_C} {E : ClassId × ClassId} {A : Nat → Prop} {ad : Nat → Nat}  (a1 : Int32) (a2 : Int32) (a3 : Int32) (a4 : Int32) (a5 : Int32) (a6 : Int32) (a7 : Int32) (a8 : Int32) (a9 : Int32) (σ : gg_S) {Q : gg_S → Prop} (hw : mmw_spell a1 a2 a3 a4 a5 a6 a7 a8 a9 σ Q) :
    Met l yX8_spell (ws_ yX8_spell cX8_spell 10 none) mmr_spell (va_Pc [.ref (ad 0), .int a1, .int a2, .int a3, .int a4, .int a5, .int a6, .int a7, .int a8, .int a9] (fun U => mm_W D cl E A ad σ U U.heap)) (va_Qv Q (fun u t => mm_W D cl E A ad u t t.heap) A) 0 0 A := by
  refine gg_entry (W0 := fun s H => mm_W D cl E A ad σ s H) (by decide) (Nat.le_of_ble_eq_true rfl) ?_
  intro p e s m args below meth c C0 hW ls hl
  have C0 : gg_C p s m args meth c RX8 cX8_spell 10 none := C0
  obtain ⟨hx, hb, hml, hown, hts, hr, hlocks⟩ := id C0
  have hl : lv_has ls 10 [(0, .ref (ad 0)), (1, .int a1), (2, .int a2), (3, .int a3), (4, .int a4), (5, .int a5), (6, .int a6), (7, .int a7), (8, .int a8), (9, .int a9)] := hl
  have hS : va_S A s.heap s.heap [] := va_S.rf
  unfold mmw_spell at hw
  refine lv_aload_n hx hb dX8_spell_0 rfl (lv_at hl 0 rfl) ?_
  refine mm_getr hx hb hts hown hW 1 1 (by decide) q1272 dX8_spell_1 ?_
  refine lv_iload_n hx hb dX8_spell_4 rfl (lv_at hl 1 rfl) ?_
  refine lv_iload_n hx hb dX8_spell_5 rfl (lv_at hl 2 rfl) ?_
  obtain ⟨hin, hw⟩ := hw
  refine mm_ast hx hb hW hS 0 (by decide) hin dX8_spell_6 (fun H locs hW hS => ?_)
  obtain ⟨σ1, eσ1⟩ : ∃ z, z = gg_s σ 1 a1.toNatClampNeg a2 := ⟨_, rfl⟩
  rw [← eσ1] at hW
  have hw := hw σ1 eσ1
  refine lv_aload_n hx hb dX8_spell_7 rfl (lv_at hl 0 rfl) ?_
  refine mm_getr hx hb hts hown hW 1 1 (by decide) q1272 dX8_spell_8 ?_
  refine lv_iload_n hx hb dX8_spell_11 rfl (lv_at hl 1 rfl) ?_
  refine lv_iconst (v := (1 : Int32)) hx hb dX8_spell_12 (by decide) ?_
  refine lv_iadd hx hb dX8_spell_13 ?_
  refine lv_iload_n hx hb dX8_spell_14 rfl (lv_at hl 3 rfl) ?_
  obtain ⟨hin, hw⟩ := hw
  refine mm_ast hx hb hW hS 0 (by decide) hin dX8_spell_15 (fun H locs hW hS => ?_)
  obtain ⟨σ2, eσ2⟩ : ∃ z, z = gg_s σ1 1 (a1 + (1 : Int32)).toNatClampNeg a3 := ⟨_, rfl⟩
  rw [← eσ2] at hW
  have hw := hw σ2 eσ2
  refine lv_aload_n hx hb dX8_spell_16 rfl (lv_at hl 0 rfl) ?_
  refine mm_getr hx hb hts hown hW 1 1 (by decide) q1272 dX8_spell_17 ?_
  refine lv_iload_n hx hb dX8_spell_20 rfl (lv_at hl 1 rfl) ?_
  refine lv_iconst (v := (2 : Int32)) hx hb dX8_spell_21 (by decide) ?_
  refine lv_iadd hx hb dX8_spell_22 ?_
  refine lv_iload hx hb dX8_spell_23 (lv_at hl 4 rfl) ?_
  obtain ⟨hin, hw⟩ := hw
  refine mm_ast hx hb hW hS 0 (by decide) hin dX8_spell_25 (fun H locs hW hS => ?_)
  obtain ⟨σ3, eσ3⟩ : ∃ z, z = gg_s σ2 1 (a1 + (2 : Int32)).toNatClampNeg a4 := ⟨_, rfl⟩
  rw [← eσ3] at hW
  have hw := hw σ3 eσ3
  refine lv_aload_n hx hb dX8_spell_26 rfl (lv_at hl 0 rfl) ?_
  refine mm_getr hx hb hts hown hW 1 1 (by decide) q1272 dX8_spell_27 ?_
  refine lv_iload_n hx hb dX8_spell_30 rfl (lv_at hl 1 rfl) ?_
  refine lv_iconst (v := (3 : Int32)) hx hb dX8_spell_31 (by decide) ?_
  refine lv_iadd hx hb dX8_spell_32 ?_
  refine lv_iload hx hb dX8_spell_33 (lv_at hl 5 rfl) ?_
  obtain ⟨hin, hw⟩ := hw
  refine mm_ast hx hb hW hS 0 (by decide) hin dX8_spell_35 (fun H locs hW hS => ?_)
  obtain ⟨σ4, eσ4⟩ : ∃ z, z = gg_s σ3 1 (a1 + (3 : Int32)).toNatClampNeg a5 := ⟨_, rfl⟩
  rw [← eσ4] at hW
  have hw := hw σ4 eσ4
  refine lv_aload_n hx hb dX8_spell_36 rfl (lv_at hl 0 rfl) ?_
  refine mm_getr hx hb hts hown hW 1 1 (by decide) q1272 dX8_spell_37 ?_
  refine lv_iload_n hx hb dX8_spell_40 rfl (lv_at hl 1 rfl) ?_
  refine lv_iconst (v := (4 : Int32)) hx hb dX8_spell_41 (by decide) ?_
  refine lv_iadd hx hb dX8_spell_42 ?_
  refine lv_iload hx hb dX8_spell_43 (lv_at hl 6 rfl) ?_
  obtain ⟨hin, hw⟩ := hw
  refine mm_ast hx hb hW hS 0 (by decide) hin dX8_spell_45 (fun H locs hW hS => ?_)
  obtain ⟨σ5, eσ5⟩ : ∃ z, z = gg_s σ4 1 (a1 + (4 : Int32)).toNatClampNeg a6 := ⟨_, rfl⟩
  rw [← eσ5] at hW
  have hw := hw σ5 eσ5
  refine lv_aload_n hx hb dX8_spell_46 rfl (lv_at hl 0 rfl) ?_
  refine mm_getr hx hb hts hown hW 1 1 (by decide) q1272 dX8_spell_47 ?_
  refine lv_iload_n hx hb dX8_spell_50 rfl (lv_at hl 1 rfl) ?_
  refine lv_iconst (v := (5 : Int32)) hx hb dX8_spell_51 (by decide) ?_
  refine lv_iadd hx hb dX8_spell_52 ?_
  refine lv_iload hx hb dX8_spell_53 (lv_at hl 7 rfl) ?_
  obtain ⟨hin, hw⟩ := hw
  refine mm_ast hx hb hW hS 0 (by decide) hin dX8_spell_55 (fun H locs hW hS => ?_)
  obtain ⟨σ6, eσ6⟩ : ∃ z, z = gg_s σ5 1 (a1 + (5 : Int32)).toNatClampNeg a7 := ⟨_, rfl⟩
  rw [← eσ6] at hW
  have hw := hw σ6 eσ6
  refine lv_aload_n hx hb dX8_spell_56 rfl (lv_at hl 0 rfl) ?_
  refine mm_getr hx hb hts hown hW 1 1 (by decide) q1272 dX8_spell_57 ?_
  refine lv_iload_n hx hb dX8_spell_60 rfl (lv_at hl 1 rfl) ?_
  refine lv_bipush (v := (6 : Int32)) hx hb dX8_spell_61 (by decide) ?_
  refine lv_iadd hx hb dX8_spell_63 ?_
  refine lv_iload hx hb dX8_spell_64 (lv_at hl 8 rfl) ?_
  obtain ⟨hin, hw⟩ := hw
  refine mm_ast hx hb hW hS 0 (by decide) hin dX8_spell_66 (fun H locs hW hS => ?_)
  obtain ⟨σ7, eσ7⟩ : ∃ z, z = gg_s σ6 1 (a1 + (6 : Int32)).toNatClampNeg a8 := ⟨_, rfl⟩
  rw [← eσ7] at hW
  have hw := hw σ7 eσ7
  refine lv_aload_n hx hb dX8_spell_67 rfl (lv_at hl 0 rfl) ?_
  refine mm_getr hx hb hts hown hW 1 1 (by decide) q1272 dX8_spell_68 ?_
  refine lv_iload_n hx hb dX8_spell_71 rfl (lv_at hl 1 rfl) ?_
  refine lv_bipush (v := (7 : Int32)) hx hb dX8_spell_72 (by decide) ?_
  refine lv_iadd hx hb dX8_spell_74 ?_
  refine lv_iload hx hb dX8_spell_75 (lv_at hl 9 rfl) ?_
  obtain ⟨hin, hw⟩ := hw
  refine mm_ast hx hb hW hS 0 (by decide) hin dX8_spell_77 (fun H locs hW hS => ?_)
  obtain ⟨σ8, eσ8⟩ : ∃ z, z = gg_s σ7 1 (a1 + (7 : Int32)).toNatClampNeg a9 := ⟨_, rfl⟩
  rw [← eσ8] at hW
  have hw := hw σ8 eσ8
  exact gg_vret (mm_mv D cl E A ad) C0 hW hS hw dX8_spell_78
theorem cd_X8_in : yX8_in.cls = RX8 ∧ yX8_in.cls ≠ "java/lang/invoke/MethodHandle" ∧ yX8_in.cls ≠ "java/lang/invoke/VarHandle" ∧ (parseMethodDescriptor yX8_in.desc).map (fun d => d.parameters.length) = some 3 := by decide +kernel
/-! GleanersForGapsModel.in(JJJ)Z -/
def mmw_in  (a0 : Int64) (a2 : Int64) (a4 : Int64) (σ : gg_S) (Q : Int32 → gg_S → Prop) : Prop :=
    ((((lg_cmp a0 a2) < 0) → Q (0 : Int32) σ) ∧ (¬ ((lg_cmp a0 a2) < 0) → (((0 < (lg_cmp a0 a4)) → Q (0 : Int32) σ) ∧ (¬ (0 < (lg_cmp a0 a4)) → Q (1 : Int32) σ))))
abbrev mmr_in : Room := { frames := 0, cells := 0, slots := 0, locals := 0 }
set_option maxHeartbeats 4000000 in
set_option maxRecDepth 100000 in
theorem mmt_in (l : Launch) {D : va_G} {cl : List vw_C} {E : ClassId × ClassId} {A : Nat → Prop} {ad : Nat → Nat}  (a0 : Int64) (a2 : Int64) (a4 : Int64) (σ : gg_S) {Q : Int32 → gg_S → Prop} (hw : mmw_in a0 a2 a4 σ Q) :
    Met l yX8_in (ws_ yX8_in cX8_in 6 (some .boolean)) mmr_in (va_Pc [.long a0, .long a2, .long a4] (fun U => mm_W D cl E A ad σ U U.heap)) (va_Qi (fun r u => (r = 0 ∨ r = 1) ∧ Q r u) (fun u t => mm_W D cl E A ad u t t.heap) A) 0 0 A := by
  refine gg_entry (W0 := fun s H => mm_W D cl E A ad σ s H) (by decide) (Nat.le_of_ble_eq_true rfl) ?_
  intro p e s m args below meth c C0 hW ls hl
  have C0 : gg_C p s m args meth c RX8 cX8_in 6 (some .boolean) := C0
  obtain ⟨hx, hb, hml, hown, hts, hr, hlocks⟩ := id C0
  have hl : lv_has ls 6 [(0, .long a0), (2, .long a2), (4, .long a4)] := hl
  have hS : va_S A s.heap s.heap [] := va_S.rf
  unfold mmw_in at hw
  refine lv_lload_n hx hb dX8_in_0 rfl (lv_at hl 0 rfl) ?_
  refine lv_lload_n hx hb dX8_in_1 rfl (lv_at hl 1 rfl) ?_
  refine W.lcmp hx hb dX8_in_2 ?_
  refine lv_if_lt (tgt := 17) hx hb dX8_in_3 (by decide) (fun c2 => ?_) (fun c2 => ?_)
  · have hw := hw.1 c2
    refine lv_iconst (v := (0 : Int32)) hx hb dX8_in_17 (by decide) ?_
    exact gg_zret (mm_mv D cl E A ad) C0 hW hS (Or.inl rfl) hw dX8_in_18
  · have hw := hw.2 c2
    refine lv_lload_n hx hb dX8_in_6 rfl (lv_at hl 0 rfl) ?_
    refine lv_lload hx hb dX8_in_7 (lv_at hl 2 rfl) ?_
    refine W.lcmp hx hb dX8_in_9 ?_
    refine lv_if_gt (tgt := 17) hx hb dX8_in_10 (by decide) (fun c1 => ?_) (fun c1 => ?_)
    · have hw := hw.1 c1
      refine lv_iconst (v := (0 : Int32)) hx hb dX8_in_17 (by decide) ?_
      exact gg_zret (mm_mv D cl E A ad) C0 hW hS (Or.inl rfl) hw dX8_in_18
    · have hw := hw.2 c1
      refine lv_iconst (v := (1 : Int32)) hx hb dX8_in_13 (by decide) ?_
      refine lv_goto (tgt := 18) hx hb dX8_in_14 (by decide) ?_
      exact gg_zret (mm_mv D cl E A ad) C0 hW hS (Or.inr rfl) hw dX8_in_18
theorem cd_X8_isRow : yX8_isRow.cls = RX8 ∧ yX8_isRow.cls ≠ "java/lang/invoke/MethodHandle" ∧ yX8_isRow.cls ≠ "java/lang/invoke/VarHandle" ∧ (parseMethodDescriptor yX8_isRow.desc).map (fun d => d.parameters.length) = some 1 := by decide +kernel
/-! GleanersForGapsModel.isRow(I)Z -/
def mmw_isRow  (a0 : Int32) (σ : gg_S) (Q : Int32 → gg_S → Prop) : Prop :=
    (mmw_in ((a0).toInt64) (0 : Int64) (3 : Int64) σ (fun r2 σ1 => Q r2 σ1))
abbrev mmr_isRow : Room := { frames := 1, cells := 0, slots := 0, locals := 25 }
set_option maxHeartbeats 4000000 in
set_option maxRecDepth 100000 in
theorem mmt_isRow (l : Launch) {D : va_G} {cl : List vw_C} {E : ClassId × ClassId} {A : Nat → Prop} {ad : Nat → Nat}  (a0 : Int32) (σ : gg_S) {Q : Int32 → gg_S → Prop} (hw : mmw_isRow a0 σ Q) :
    Met l yX8_isRow (ws_ yX8_isRow cX8_isRow 1 (some .boolean)) mmr_isRow (va_Pc [.int a0] (fun U => mm_W D cl E A ad σ U U.heap)) (va_Qi (fun r u => (r = 0 ∨ r = 1) ∧ Q r u) (fun u t => mm_W D cl E A ad u t t.heap) A) 0 0 A := by
  refine gg_entry (W0 := fun s H => mm_W D cl E A ad σ s H) (by decide) (Nat.le_of_ble_eq_true rfl) ?_
  intro p e s m args below meth c C0 hW ls hl
  have C0 : gg_C p s m args meth c RX8 cX8_isRow 1 (some .boolean) := C0
  obtain ⟨hx, hb, hml, hown, hts, hr, hlocks⟩ := id C0
  have hl : lv_has ls 1 [(0, .int a0)] := hl
  have hS : va_S A s.heap s.heap [] := va_S.rf
  unfold mmw_isRow at hw
  refine lv_iload_n hx hb dX8_isRow_0 rfl (lv_at hl 0 rfl) ?_
  refine lv_i2l (v := (a0).toInt64) hx hb dX8_isRow_1 rfl ?_
  refine lv_lconst (v := (0 : Int64)) hx hb dX8_isRow_2 (by decide) ?_
  refine lv_ldc2 (own := RX8) (v := (3 : Int64)) hx hb hown (hts _ q1421) dX8_isRow_3 ?_
  refine mm_SI ⟨hx, hb, hml, hown, hts⟩ (mmt_in l _ _ _ _ hw) (va_cwS 3 hts (lw_S q1422 q1423 q120 q1424) rfl rfl rfl cd_X8_in.2 ⟨Nat.le_of_ble_eq_true rfl, Nat.le_of_ble_eq_true rfl⟩) hW hS rfl hl.1 rfl (Nat.le_of_ble_eq_true rfl) dX8_isRow_6 (fun r2 σ1 H locs hw hW hS => ?_)
  obtain ⟨hz_r2, hw⟩ := hw
  exact gg_zret (mm_mv D cl E A ad) C0 hW hS (hz_r2) hw dX8_isRow_9
theorem cd_X8_bitsOf : yX8_bitsOf.cls = RX8 ∧ yX8_bitsOf.cls ≠ "java/lang/invoke/MethodHandle" ∧ yX8_bitsOf.cls ≠ "java/lang/invoke/VarHandle" ∧ (parseMethodDescriptor yX8_bitsOf.desc).map (fun d => d.parameters.length) = some 1 := by decide +kernel
/-! GleanersForGapsModel.bitsOf(I)I -/
def mmw_bitsOf_4  (Q : Int32 → gg_S → Prop)  : Nat → Int32 → Int32 → gg_S → Prop
  | 0, _, _, _ => False
  | n + 1, x1, x2, σ =>
    (((x2 = 0) → Q x1 σ) ∧ (¬ (x2 = 0) → mmw_bitsOf_4 Q n (x1 + (1 : Int32)) (x2 &&& (x2 - (1 : Int32))) σ))
def mmw_bitsOf  (a0 : Int32) (σ : gg_S) (Q : Int32 → gg_S → Prop) : Prop :=
    ∃ k9, mmw_bitsOf_4 Q k9 (0 : Int32) a0 σ
abbrev mmr_bitsOf : Room := { frames := 0, cells := 0, slots := 0, locals := 0 }
set_option maxHeartbeats 4000000 in
set_option maxRecDepth 100000 in
theorem mmk_bitsOf_4 {p : Program} {l : Launch} {e : Env} {s : State} {m : MethodId} {args : Array Value} {below : List Frame} {meth : Method} {c : Code} {D : va_G} {cl : List vw_C} {E : ClassId × ClassId} {A : Nat → Prop} {ad : Nat → Nat} {Q : Int32 → gg_S → Prop}   (C0 : gg_C p s m args meth c RX8 cX8_bitsOf 3 (some .int))  :
    ∀ n : Nat, ∀ (x1 : Int32) (x2 : Int32) (σ : gg_S) (H : Heap) (locs : List Loc) (ls : Array Slot), mmw_bitsOf_4 Q n x1 x2 σ → mm_W D cl E A ad σ s H → va_S A s.heap H locs → lv_has ls 3 [(1, .int x1), (2, .int x2)] → W p l e mmr_bitsOf s m args below meth c H locs 0 0 (MQ below (va_Qi Q (fun u t => mm_W D cl E A ad u t t.heap) A) args s 0 0 A) (F0 m 4 ls []) := by
  obtain ⟨hx, hb, hml, hown, hts, hr, hlocks⟩ := id C0
  intro n
  induction n with
  | zero =>
    intro x1 x2 σ H locs ls hw hW hS hl
    exact absurd hw (by unfold mmw_bitsOf_4; exact id)
  | succ n ih =>
    intro x1 x2 σ H locs ls hw hW hS hl
    unfold mmw_bitsOf_4 at hw
    refine lv_iload_n hx hb dX8_bitsOf_4 rfl (lv_at hl 1 rfl) ?_
    refine lv_if_eq (tgt := 20) hx hb dX8_bitsOf_5 (by decide) (fun c1 => ?_) (fun c1 => ?_)
    · have hw := hw.1 c1
      refine lv_iload_n hx hb dX8_bitsOf_20 rfl (lv_at hl 0 rfl) ?_
      exact gg_iret (mm_mv D cl E A ad) C0 hW hS hw dX8_bitsOf_21
    · have hw := hw.2 c1
      refine lv_iinc (v := (x1 + (1 : Int32))) (lv' := [(1, .int (x1 + (1 : Int32))), (2, .int x2)]) hx hb dX8_bitsOf_8 hl (k := 0) rfl rfl (by decide) rfl (fun ls hl => ?_)
      refine lv_iload_n hx hb dX8_bitsOf_11 rfl (lv_at hl 1 rfl) ?_
      refine lv_iload_n hx hb dX8_bitsOf_12 rfl (lv_at hl 1 rfl) ?_
      refine lv_iconst (v := (1 : Int32)) hx hb dX8_bitsOf_13 (by decide) ?_
      refine lv_isub hx hb dX8_bitsOf_14 ?_
      refine lv_iand hx hb dX8_bitsOf_15 ?_
      refine lv_istore_n (lv' := [(2, .int (x2 &&& (x2 - (1 : Int32)))), (1, .int (x1 + (1 : Int32)))]) hx hb dX8_bitsOf_16 rfl hl (by decide) rfl (fun ls hl => ?_)
      refine lv_goto (tgt := 4) hx hb dX8_bitsOf_17 (by decide) ?_
      exact ih (x1 + (1 : Int32)) (x2 &&& (x2 - (1 : Int32))) σ _ _ _ hw hW hS (lv_sub hl [1, 0] rfl)
set_option maxHeartbeats 4000000 in
set_option maxRecDepth 100000 in
theorem mmt_bitsOf (l : Launch) {D : va_G} {cl : List vw_C} {E : ClassId × ClassId} {A : Nat → Prop} {ad : Nat → Nat}  (a0 : Int32) (σ : gg_S) {Q : Int32 → gg_S → Prop} (hw : mmw_bitsOf a0 σ Q) :
    Met l yX8_bitsOf (ws_ yX8_bitsOf cX8_bitsOf 3 (some .int)) mmr_bitsOf (va_Pc [.int a0] (fun U => mm_W D cl E A ad σ U U.heap)) (va_Qi Q (fun u t => mm_W D cl E A ad u t t.heap) A) 0 0 A := by
  refine gg_entry (W0 := fun s H => mm_W D cl E A ad σ s H) (by decide) (Nat.le_of_ble_eq_true rfl) ?_
  intro p e s m args below meth c C0 hW ls hl
  have C0 : gg_C p s m args meth c RX8 cX8_bitsOf 3 (some .int) := C0
  obtain ⟨hx, hb, hml, hown, hts, hr, hlocks⟩ := id C0
  have hl : lv_has ls 3 [(0, .int a0)] := hl
  have hS : va_S A s.heap s.heap [] := va_S.rf
  unfold mmw_bitsOf at hw
  refine lv_iconst (v := (0 : Int32)) hx hb dX8_bitsOf_0 (by decide) ?_
  refine lv_istore_n (lv' := [(1, .int (0 : Int32)), (0, .int a0)]) hx hb dX8_bitsOf_1 rfl hl (by decide) rfl (fun ls hl => ?_)
  refine lv_iload_n hx hb dX8_bitsOf_2 rfl (lv_at hl 1 rfl) ?_
  refine lv_istore_n (lv' := [(2, .int a0), (1, .int (0 : Int32)), (0, .int a0)]) hx hb dX8_bitsOf_3 rfl hl (by decide) rfl (fun ls hl => ?_)
  obtain ⟨n9, hw⟩ := hw
  exact mmk_bitsOf_4  C0   n9 (0 : Int32) a0 σ _ _ _ hw hW hS (lv_sub hl [1, 0] rfl)
theorem cd_X8_leftOf : yX8_leftOf.cls = RX8 ∧ yX8_leftOf.cls ≠ "java/lang/invoke/MethodHandle" ∧ yX8_leftOf.cls ≠ "java/lang/invoke/VarHandle" ∧ (parseMethodDescriptor yX8_leftOf.desc).map (fun d => d.parameters.length) = some 1 := by decide +kernel
/-! GleanersForGapsModel.leftOf(I)I -/
def mmw_leftOf  (a1 : Int32) (σ : gg_S) (Q : Int32 → gg_S → Prop) : Prop :=
    vp_in a1 5 ∧ vp_in a1 5 ∧ (mmw_bitsOf (gg_g σ 4 a1.toNatClampNeg) σ (fun r2 σ1 => Q ((gg_g σ 5 a1.toNatClampNeg) - r2) σ1))
abbrev mmr_leftOf : Room := { frames := 1, cells := 0, slots := 0, locals := 22 }
set_option maxHeartbeats 4000000 in
set_option maxRecDepth 100000 in
theorem mmt_leftOf (l : Launch) {D : va_G} {cl : List vw_C} {E : ClassId × ClassId} {A : Nat → Prop} {ad : Nat → Nat}  (a1 : Int32) (σ : gg_S) {Q : Int32 → gg_S → Prop} (hw : mmw_leftOf a1 σ Q) :
    Met l yX8_leftOf (ws_ yX8_leftOf cX8_leftOf 2 (some .int)) mmr_leftOf (va_Pc [.ref (ad 0), .int a1] (fun U => mm_W D cl E A ad σ U U.heap)) (va_Qi Q (fun u t => mm_W D cl E A ad u t t.heap) A) 0 0 A := by
  refine gg_entry (W0 := fun s H => mm_W D cl E A ad σ s H) (by decide) (Nat.le_of_ble_eq_true rfl) ?_
  intro p e s m args below meth c C0 hW ls hl
  have C0 : gg_C p s m args meth c RX8 cX8_leftOf 2 (some .int) := C0
  obtain ⟨hx, hb, hml, hown, hts, hr, hlocks⟩ := id C0
  have hl : lv_has ls 2 [(0, .ref (ad 0)), (1, .int a1)] := hl
  have hS : va_S A s.heap s.heap [] := va_S.rf
  unfold mmw_leftOf at hw
  refine lv_aload_n hx hb dX8_leftOf_0 rfl (lv_at hl 0 rfl) ?_
  refine mm_getr hx hb hts hown hW 9 5 (by decide) q1280 dX8_leftOf_1 ?_
  refine lv_iload_n hx hb dX8_leftOf_4 rfl (lv_at hl 1 rfl) ?_
  obtain ⟨hin, hw⟩ := hw
  refine mm_ald hx hb hW 4 (by decide) hin dX8_leftOf_5 ?_
  refine lv_aload_n hx hb dX8_leftOf_6 rfl (lv_at hl 0 rfl) ?_
  refine mm_getr hx hb hts hown hW 8 4 (by decide) q1279 dX8_leftOf_7 ?_
  refine lv_iload_n hx hb dX8_leftOf_10 rfl (lv_at hl 1 rfl) ?_
  obtain ⟨hin, hw⟩ := hw
  refine mm_ald hx hb hW 3 (by decide) hin dX8_leftOf_11 ?_
  refine mm_SI ⟨hx, hb, hml, hown, hts⟩ (mmt_bitsOf l _ _ hw) (va_cwS 1 hts (lw_S q1430 q1431 q120 q1432) rfl rfl rfl cd_X8_bitsOf.2 ⟨Nat.le_of_ble_eq_true rfl, Nat.le_of_ble_eq_true rfl⟩) hW hS rfl hl.1 rfl (Nat.le_of_ble_eq_true rfl) dX8_leftOf_12 (fun r2 σ1 H locs hw hW hS => ?_)
  refine lv_isub hx hb dX8_leftOf_15 ?_
  exact gg_iret (mm_mv D cl E A ad) C0 hW hS hw dX8_leftOf_16
theorem cd_X8_lay : yX8_lay.cls = RX8 ∧ yX8_lay.cls ≠ "java/lang/invoke/MethodHandle" ∧ yX8_lay.cls ≠ "java/lang/invoke/VarHandle" ∧ (parseMethodDescriptor yX8_lay.desc).map (fun d => d.parameters.length) = some 3 := by decide +kernel
/-! GleanersForGapsModel.lay(III)I -/
def mmw_lay  (a1 : Int32) (a2 : Int32) (a3 : Int32) (σ : gg_S) (Q : Int32 → gg_S → Prop) : Prop :=
    (mmw_isRow a1 σ (fun r2 σ1 => (((r2 = 0) → Q (-2 : Int32) σ1) ∧ (¬ (r2 = 0) → (mmw_in ((a2).toInt64) (0 : Int64) (24 : Int64) σ1 (fun r4 σ3 => (((r4 = 0) → Q (-2 : Int32) σ3) ∧ (¬ (r4 = 0) → (mmw_in ((a3).toInt64) (0 : Int64) (((((1 : Int32) <<< (a2 &&& 31)) - (1 : Int32))).toInt64) σ3 (fun r6 σ5 => (((r6 = 0) → Q (-2 : Int32) σ5) ∧ (¬ (r6 = 0) → vp_in a1 5 ∧ (∀ σ7 : gg_S, σ7 = gg_s σ5 4 a1.toNatClampNeg a3 → vp_in a1 5 ∧ (∀ σ8 : gg_S, σ8 = gg_s σ7 5 a1.toNatClampNeg a2 → (mmw_leftOf a1 σ8 (fun r10 σ9 => Q r10 σ9))))))))))))))))
abbrev mmr_lay : Room := { frames := 2, cells := 0, slots := 0, locals := 45 }
set_option maxHeartbeats 4000000 in
set_option maxRecDepth 100000 in
theorem mmt_lay (l : Launch) {D : va_G} {cl : List vw_C} {E : ClassId × ClassId} {A : Nat → Prop} {ad : Nat → Nat}  (a1 : Int32) (a2 : Int32) (a3 : Int32) (σ : gg_S) {Q : Int32 → gg_S → Prop} (hw : mmw_lay a1 a2 a3 σ Q) :
    Met l yX8_lay (ws_ yX8_lay cX8_lay 4 (some .int)) mmr_lay (va_Pc [.ref (ad 0), .int a1, .int a2, .int a3] (fun U => mm_W D cl E A ad σ U U.heap)) (va_Qi Q (fun u t => mm_W D cl E A ad u t t.heap) A) 0 0 A := by
  refine gg_entry (W0 := fun s H => mm_W D cl E A ad σ s H) (by decide) (Nat.le_of_ble_eq_true rfl) ?_
  intro p e s m args below meth c C0 hW ls hl
  have C0 : gg_C p s m args meth c RX8 cX8_lay 4 (some .int) := C0
  obtain ⟨hx, hb, hml, hown, hts, hr, hlocks⟩ := id C0
  have hl : lv_has ls 4 [(0, .ref (ad 0)), (1, .int a1), (2, .int a2), (3, .int a3)] := hl
  have hS : va_S A s.heap s.heap [] := va_S.rf
  unfold mmw_lay at hw
  refine lv_iload_n hx hb dX8_lay_0 rfl (lv_at hl 1 rfl) ?_
  refine mm_SI ⟨hx, hb, hml, hown, hts⟩ (mmt_isRow l _ _ hw) (va_cwS 1 hts (lw_S q1418 q1419 q120 q1420) rfl rfl rfl cd_X8_isRow.2 ⟨Nat.le_of_ble_eq_true rfl, Nat.le_of_ble_eq_true rfl⟩) hW hS rfl hl.1 rfl (Nat.le_of_ble_eq_true rfl) dX8_lay_1 (fun r2 σ1 H locs hw hW hS => ?_)
  obtain ⟨hz_r2, hw⟩ := hw
  refine lv_if_eq (tgt := 34) hx hb dX8_lay_4 (by decide) (fun c13 => ?_) (fun c13 => ?_)
  · have hw := hw.1 c13
    refine lv_bipush (v := (-2 : Int32)) hx hb dX8_lay_34 (by decide) ?_
    exact gg_iret (mm_mv D cl E A ad) C0 hW hS hw dX8_lay_36
  · have hw := hw.2 c13
    refine lv_iload_n hx hb dX8_lay_7 rfl (lv_at hl 2 rfl) ?_
    refine lv_i2l (v := (a2).toInt64) hx hb dX8_lay_8 rfl ?_
    refine lv_lconst (v := (0 : Int64)) hx hb dX8_lay_9 (by decide) ?_
    refine lv_ldc2 (own := RX8) (v := (24 : Int64)) hx hb hown (hts _ q1425) dX8_lay_10 ?_
    refine mm_SI ⟨hx, hb, hml, hown, hts⟩ (mmt_in l _ _ _ _ hw) (va_cwS 3 hts (lw_S q1422 q1423 q120 q1424) rfl rfl rfl cd_X8_in.2 ⟨Nat.le_of_ble_eq_true rfl, Nat.le_of_ble_eq_true rfl⟩) hW hS rfl hl.1 rfl (Nat.le_of_ble_eq_true rfl) dX8_lay_13 (fun r4 σ3 H locs hw hW hS => ?_)
    obtain ⟨hz_r4, hw⟩ := hw
    refine lv_if_eq (tgt := 34) hx hb dX8_lay_16 (by decide) (fun c12 => ?_) (fun c12 => ?_)
    · have hw := hw.1 c12
      refine lv_bipush (v := (-2 : Int32)) hx hb dX8_lay_34 (by decide) ?_
      exact gg_iret (mm_mv D cl E A ad) C0 hW hS hw dX8_lay_36
    · have hw := hw.2 c12
      refine lv_iload_n hx hb dX8_lay_19 rfl (lv_at hl 3 rfl) ?_
      refine lv_i2l (v := (a3).toInt64) hx hb dX8_lay_20 rfl ?_
      refine lv_lconst (v := (0 : Int64)) hx hb dX8_lay_21 (by decide) ?_
      refine lv_iconst (v := (1 : Int32)) hx hb dX8_lay_22 (by decide) ?_
      refine lv_iload_n hx hb dX8_lay_23 rfl (lv_at hl 2 rfl) ?_
      refine lv_ishl hx hb dX8_lay_24 ?_
      refine lv_iconst (v := (1 : Int32)) hx hb dX8_lay_25 (by decide) ?_
      refine lv_isub hx hb dX8_lay_26 ?_
      refine lv_i2l (v := ((((1 : Int32) <<< (a2 &&& 31)) - (1 : Int32))).toInt64) hx hb dX8_lay_27 rfl ?_
      refine mm_SI ⟨hx, hb, hml, hown, hts⟩ (mmt_in l _ _ _ _ hw) (va_cwS 3 hts (lw_S q1422 q1423 q120 q1424) rfl rfl rfl cd_X8_in.2 ⟨Nat.le_of_ble_eq_true rfl, Nat.le_of_ble_eq_true rfl⟩) hW hS rfl hl.1 rfl (Nat.le_of_ble_eq_true rfl) dX8_lay_28 (fun r6 σ5 H locs hw hW hS => ?_)
      obtain ⟨hz_r6, hw⟩ := hw
      refine lv_if_ne (tgt := 37) hx hb dX8_lay_31 (by decide) (fun c11 => ?_) (fun c11 => ?_)
      · have hw := hw.2 c11
        refine lv_aload_n hx hb dX8_lay_37 rfl (lv_at hl 0 rfl) ?_
        refine mm_getr hx hb hts hown hW 8 4 (by decide) q1279 dX8_lay_38 ?_
        refine lv_iload_n hx hb dX8_lay_41 rfl (lv_at hl 1 rfl) ?_
        refine lv_iload_n hx hb dX8_lay_42 rfl (lv_at hl 3 rfl) ?_
        obtain ⟨hin, hw⟩ := hw
        refine mm_ast hx hb hW hS 3 (by decide) hin dX8_lay_43 (fun H locs hW hS => ?_)
        obtain ⟨σ7, eσ7⟩ : ∃ z, z = gg_s σ5 4 a1.toNatClampNeg a3 := ⟨_, rfl⟩
        rw [← eσ7] at hW
        have hw := hw σ7 eσ7
        refine lv_aload_n hx hb dX8_lay_44 rfl (lv_at hl 0 rfl) ?_
        refine mm_getr hx hb hts hown hW 9 5 (by decide) q1280 dX8_lay_45 ?_
        refine lv_iload_n hx hb dX8_lay_48 rfl (lv_at hl 1 rfl) ?_
        refine lv_iload_n hx hb dX8_lay_49 rfl (lv_at hl 2 rfl) ?_
        obtain ⟨hin, hw⟩ := hw
        refine mm_ast hx hb hW hS 4 (by decide) hin dX8_lay_50 (fun H locs hW hS => ?_)
        obtain ⟨σ8, eσ8⟩ : ∃ z, z = gg_s σ7 5 a1.toNatClampNeg a2 := ⟨_, rfl⟩
        rw [← eσ8] at hW
        have hw := hw σ8 eσ8
        refine lv_aload_n hx hb dX8_lay_51 rfl (lv_at hl 0 rfl) ?_
        refine lv_iload_n hx hb dX8_lay_52 rfl (lv_at hl 1 rfl) ?_
        refine mm_VI ⟨hx, hb, hml, hown, hts⟩ (mmt_leftOf l _ _ hw) (cwV 1 hts (lw_V q1426 q1428 qs60 q120 q1429) rfl rfl rfl cd_X8_leftOf ⟨Nat.le_of_ble_eq_true rfl, Nat.le_of_ble_eq_true rfl⟩) hW (mm_recv hW) hS rfl hl.1 rfl (Nat.le_of_ble_eq_true rfl) dX8_lay_53 (fun r10 σ9 H locs hw hW hS => ?_)
        exact gg_iret (mm_mv D cl E A ad) C0 hW hS hw dX8_lay_56
      · have hw := hw.1 c11
        refine lv_bipush (v := (-2 : Int32)) hx hb dX8_lay_34 (by decide) ?_
        exact gg_iret (mm_mv D cl E A ad) C0 hW hS hw dX8_lay_36
theorem cd_X8_isOne : yX8_isOne.cls = RX8 ∧ yX8_isOne.cls ≠ "java/lang/invoke/MethodHandle" ∧ yX8_isOne.cls ≠ "java/lang/invoke/VarHandle" ∧ (parseMethodDescriptor yX8_isOne.desc).map (fun d => d.parameters.length) = some 1 := by decide +kernel
/-! GleanersForGapsModel.isOne(I)Z -/
def mmw_isOne  (a1 : Int32) (σ : gg_S) (Q : Int32 → gg_S → Prop) : Prop :=
    (mmw_in ((a1).toInt64) (0 : Int64) ((((gg_g σ 0 12) - (1 : Int32))).toInt64) σ (fun r2 σ1 => Q r2 σ1))
abbrev mmr_isOne : Room := { frames := 1, cells := 0, slots := 0, locals := 25 }
set_option maxHeartbeats 4000000 in
set_option maxRecDepth 100000 in
theorem mmt_isOne (l : Launch) {D : va_G} {cl : List vw_C} {E : ClassId × ClassId} {A : Nat → Prop} {ad : Nat → Nat}  (a1 : Int32) (σ : gg_S) {Q : Int32 → gg_S → Prop} (hw : mmw_isOne a1 σ Q) :
    Met l yX8_isOne (ws_ yX8_isOne cX8_isOne 2 (some .boolean)) mmr_isOne (va_Pc [.ref (ad 0), .int a1] (fun U => mm_W D cl E A ad σ U U.heap)) (va_Qi (fun r u => (r = 0 ∨ r = 1) ∧ Q r u) (fun u t => mm_W D cl E A ad u t t.heap) A) 0 0 A := by
  refine gg_entry (W0 := fun s H => mm_W D cl E A ad σ s H) (by decide) (Nat.le_of_ble_eq_true rfl) ?_
  intro p e s m args below meth c C0 hW ls hl
  have C0 : gg_C p s m args meth c RX8 cX8_isOne 2 (some .boolean) := C0
  obtain ⟨hx, hb, hml, hown, hts, hr, hlocks⟩ := id C0
  have hl : lv_has ls 2 [(0, .ref (ad 0)), (1, .int a1)] := hl
  have hS : va_S A s.heap s.heap [] := va_S.rf
  unfold mmw_isOne at hw
  refine lv_iload_n hx hb dX8_isOne_0 rfl (lv_at hl 1 rfl) ?_
  refine lv_i2l (v := (a1).toInt64) hx hb dX8_isOne_1 rfl ?_
  refine lv_lconst (v := (0 : Int64)) hx hb dX8_isOne_2 (by decide) ?_
  refine lv_aload_n hx hb dX8_isOne_3 rfl (lv_at hl 0 rfl) ?_
  refine mm_geti hx hb hts hown hW 12 (by decide) q1283 dX8_isOne_4 ?_
  refine lv_iconst (v := (1 : Int32)) hx hb dX8_isOne_7 (by decide) ?_
  refine lv_isub hx hb dX8_isOne_8 ?_
  refine lv_i2l (v := (((gg_g σ 0 12) - (1 : Int32))).toInt64) hx hb dX8_isOne_9 rfl ?_
  refine mm_SI ⟨hx, hb, hml, hown, hts⟩ (mmt_in l _ _ _ _ hw) (va_cwS 3 hts (lw_S q1422 q1423 q120 q1424) rfl rfl rfl cd_X8_in.2 ⟨Nat.le_of_ble_eq_true rfl, Nat.le_of_ble_eq_true rfl⟩) hW hS rfl hl.1 rfl (Nat.le_of_ble_eq_true rfl) dX8_isOne_10 (fun r2 σ1 H locs hw hW hS => ?_)
  obtain ⟨hz_r2, hw⟩ := hw
  exact gg_zret (mm_mv D cl E A ad) C0 hW hS (hz_r2) hw dX8_isOne_13
theorem cd_X8_lays : yX8_lays.cls = RX8 ∧ yX8_lays.cls ≠ "java/lang/invoke/MethodHandle" ∧ yX8_lays.cls ≠ "java/lang/invoke/VarHandle" ∧ (parseMethodDescriptor yX8_lays.desc).map (fun d => d.parameters.length) = some 3 := by decide +kernel
/-! GleanersForGapsModel.lays(III)V -/
def mmw_lays  (a1 : Int32) (a2 : Int32) (a3 : Int32) (σ : gg_S) (Q : gg_S → Prop) : Prop :=
    (((a1 = 0) → (∀ σ6 : gg_S, σ6 = gg_s σ 0 7 a3 → Q σ6)) ∧ (¬ (a1 = 0) → ((((3 : Int32) ≤ a1) → (((a1 = (3 : Int32)) → vp_in a2 5 ∧ (∀ σ2 : gg_S, σ2 = gg_s σ 6 a2.toNatClampNeg a3 → Q σ2)) ∧ (¬ (a1 = (3 : Int32)) → (∀ σ1 : gg_S, σ1 = gg_s σ 0 4 a3 → Q σ1)))) ∧ (¬ ((3 : Int32) ≤ a1) → vp_in ((((2 : Int32) * a2) + a1) - (1 : Int32)) 10 ∧ (∀ σ4 : gg_S, σ4 = gg_s σ 7 ((((2 : Int32) * a2) + a1) - (1 : Int32)).toNatClampNeg a3 → Q σ4)))))
abbrev mmr_lays : Room := { frames := 0, cells := 0, slots := 0, locals := 0 }
set_option maxHeartbeats 4000000 in
set_option maxRecDepth 100000 in
theorem mmt_lays (l : Launch) {D : va_G} {cl : List vw_C} {E : ClassId × ClassId} {A : Nat → Prop} {ad : Nat → Nat}  (a1 : Int32) (a2 : Int32) (a3 : Int32) (σ : gg_S) {Q : gg_S → Prop} (hw : mmw_lays a1 a2 a3 σ Q) :
    Met l yX8_lays (ws_ yX8_lays cX8_lays 4 none) mmr_lays (va_Pc [.ref (ad 0), .int a1, .int a2, .int a3] (fun U => mm_W D cl E A ad σ U U.heap)) (va_Qv Q (fun u t => mm_W D cl E A ad u t t.heap) A) 0 0 A := by
  refine gg_entry (W0 := fun s H => mm_W D cl E A ad σ s H) (by decide) (Nat.le_of_ble_eq_true rfl) ?_
  intro p e s m args below meth c C0 hW ls hl
  have C0 : gg_C p s m args meth c RX8 cX8_lays 4 none := C0
  obtain ⟨hx, hb, hml, hown, hts, hr, hlocks⟩ := id C0
  have hl : lv_has ls 4 [(0, .ref (ad 0)), (1, .int a1), (2, .int a2), (3, .int a3)] := hl
  have hS : va_S A s.heap s.heap [] := va_S.rf
  unfold mmw_lays at hw
  refine lv_iload_n hx hb dX8_lays_0 rfl (lv_at hl 1 rfl) ?_
  refine lv_if_ne (tgt := 12) hx hb dX8_lays_1 (by decide) (fun c7 => ?_) (fun c7 => ?_)
  · have hw := hw.2 c7
    refine lv_iload_n hx hb dX8_lays_12 rfl (lv_at hl 1 rfl) ?_
    refine lv_iconst (v := (3 : Int32)) hx hb dX8_lays_13 (by decide) ?_
    refine lv_icmp_ge (tgt := 33) hx hb dX8_lays_14 (by decide) (fun c5 => ?_) (fun c5 => ?_)
    · have hw := hw.1 c5
      refine lv_iload_n hx hb dX8_lays_33 rfl (lv_at hl 1 rfl) ?_
      refine lv_iconst (v := (3 : Int32)) hx hb dX8_lays_34 (by decide) ?_
      refine lv_icmp_ne (tgt := 48) hx hb dX8_lays_35 (by decide) (fun c3 => ?_) (fun c3 => ?_)
      · have hw := hw.2 c3
        refine lv_aload_n hx hb dX8_lays_48 rfl (lv_at hl 0 rfl) ?_
        refine lv_iload_n hx hb dX8_lays_49 rfl (lv_at hl 3 rfl) ?_
        refine mm_puti hx hb hts hown hW hS 4 (by decide) q1275 rfl rfl rfl dX8_lays_50 (fun H locs hW hS => ?_)
        obtain ⟨σ1, eσ1⟩ : ∃ z, z = gg_s σ 0 4 a3 := ⟨_, rfl⟩
        rw [← eσ1] at hW
        have hw := hw σ1 eσ1
        exact gg_vret (mm_mv D cl E A ad) C0 hW hS hw dX8_lays_53
      · have hw := hw.1 c3
        refine lv_aload_n hx hb dX8_lays_38 rfl (lv_at hl 0 rfl) ?_
        refine mm_getr hx hb hts hown hW 10 6 (by decide) q1281 dX8_lays_39 ?_
        refine lv_iload_n hx hb dX8_lays_42 rfl (lv_at hl 2 rfl) ?_
        refine lv_iload_n hx hb dX8_lays_43 rfl (lv_at hl 3 rfl) ?_
        obtain ⟨hin, hw⟩ := hw
        refine mm_ast hx hb hW hS 5 (by decide) hin dX8_lays_44 (fun H locs hW hS => ?_)
        obtain ⟨σ2, eσ2⟩ : ∃ z, z = gg_s σ 6 a2.toNatClampNeg a3 := ⟨_, rfl⟩
        rw [← eσ2] at hW
        have hw := hw σ2 eσ2
        refine lv_goto (tgt := 53) hx hb dX8_lays_45 (by decide) ?_
        exact gg_vret (mm_mv D cl E A ad) C0 hW hS hw dX8_lays_53
    · have hw := hw.2 c5
      refine lv_aload_n hx hb dX8_lays_17 rfl (lv_at hl 0 rfl) ?_
      refine mm_getr hx hb hts hown hW 11 7 (by decide) q1282 dX8_lays_18 ?_
      refine lv_iconst (v := (2 : Int32)) hx hb dX8_lays_21 (by decide) ?_
      refine lv_iload_n hx hb dX8_lays_22 rfl (lv_at hl 2 rfl) ?_
      refine lv_imul hx hb dX8_lays_23 ?_
      refine lv_iload_n hx hb dX8_lays_24 rfl (lv_at hl 1 rfl) ?_
      refine lv_iadd hx hb dX8_lays_25 ?_
      refine lv_iconst (v := (1 : Int32)) hx hb dX8_lays_26 (by decide) ?_
      refine lv_isub hx hb dX8_lays_27 ?_
      refine lv_iload_n hx hb dX8_lays_28 rfl (lv_at hl 3 rfl) ?_
      obtain ⟨hin, hw⟩ := hw
      refine mm_ast hx hb hW hS 6 (by decide) hin dX8_lays_29 (fun H locs hW hS => ?_)
      obtain ⟨σ4, eσ4⟩ : ∃ z, z = gg_s σ 7 ((((2 : Int32) * a2) + a1) - (1 : Int32)).toNatClampNeg a3 := ⟨_, rfl⟩
      rw [← eσ4] at hW
      have hw := hw σ4 eσ4
      refine lv_goto (tgt := 53) hx hb dX8_lays_30 (by decide) ?_
      exact gg_vret (mm_mv D cl E A ad) C0 hW hS hw dX8_lays_53
  · have hw := hw.1 c7
    refine lv_aload_n hx hb dX8_lays_4 rfl (lv_at hl 0 rfl) ?_
    refine lv_iload_n hx hb dX8_lays_5 rfl (lv_at hl 3 rfl) ?_
    refine mm_puti hx hb hts hown hW hS 7 (by decide) q1278 rfl rfl rfl dX8_lays_6 (fun H locs hW hS => ?_)
    obtain ⟨σ6, eσ6⟩ : ∃ z, z = gg_s σ 0 7 a3 := ⟨_, rfl⟩
    rw [← eσ6] at hW
    have hw := hw σ6 eσ6
    refine lv_goto (tgt := 53) hx hb dX8_lays_9 (by decide) ?_
    exact gg_vret (mm_mv D cl E A ad) C0 hW hS hw dX8_lays_53
theorem cd_X8_mostOf : yX8_mostOf.cls = RX8 ∧ yX8_mostOf.cls ≠ "java/lang/invoke/MethodHandle" ∧ yX8_mostOf.cls ≠ "java/lang/invoke/VarHandle" ∧ (parseMethodDescriptor yX8_mostOf.desc).map (fun d => d.parameters.length) = some 1 := by decide +kernel
/-! GleanersForGapsModel.mostOf(I)I -/
def mmw_mostOf  (a0 : Int32) (σ : gg_S) (Q : Int32 → gg_S → Prop) : Prop :=
    (((a0 = (1 : Int32)) → Q (9 : Int32) σ) ∧ (¬ (a0 = (1 : Int32)) → Q (999 : Int32) σ))
abbrev mmr_mostOf : Room := { frames := 0, cells := 0, slots := 0, locals := 0 }
set_option maxHeartbeats 4000000 in
set_option maxRecDepth 100000 in
theorem mmt_mostOf (l : Launch) {D : va_G} {cl : List vw_C} {E : ClassId × ClassId} {A : Nat → Prop} {ad : Nat → Nat}  (a0 : Int32) (σ : gg_S) {Q : Int32 → gg_S → Prop} (hw : mmw_mostOf a0 σ Q) :
    Met l yX8_mostOf (ws_ yX8_mostOf cX8_mostOf 1 (some .int)) mmr_mostOf (va_Pc [.int a0] (fun U => mm_W D cl E A ad σ U U.heap)) (va_Qi Q (fun u t => mm_W D cl E A ad u t t.heap) A) 0 0 A := by
  refine gg_entry (W0 := fun s H => mm_W D cl E A ad σ s H) (by decide) (Nat.le_of_ble_eq_true rfl) ?_
  intro p e s m args below meth c C0 hW ls hl
  have C0 : gg_C p s m args meth c RX8 cX8_mostOf 1 (some .int) := C0
  obtain ⟨hx, hb, hml, hown, hts, hr, hlocks⟩ := id C0
  have hl : lv_has ls 1 [(0, .int a0)] := hl
  have hS : va_S A s.heap s.heap [] := va_S.rf
  unfold mmw_mostOf at hw
  refine lv_iload_n hx hb dX8_mostOf_0 rfl (lv_at hl 0 rfl) ?_
  refine lv_iconst (v := (1 : Int32)) hx hb dX8_mostOf_1 (by decide) ?_
  refine lv_icmp_ne (tgt := 10) hx hb dX8_mostOf_2 (by decide) (fun c1 => ?_) (fun c1 => ?_)
  · have hw := hw.2 c1
    refine lv_sipush (v := (999 : Int32)) hx hb dX8_mostOf_10 (by decide) ?_
    exact gg_iret (mm_mv D cl E A ad) C0 hW hS hw dX8_mostOf_13
  · have hw := hw.1 c1
    refine lv_bipush (v := (9 : Int32)) hx hb dX8_mostOf_5 (by decide) ?_
    refine lv_goto (tgt := 13) hx hb dX8_mostOf_7 (by decide) ?_
    exact gg_iret (mm_mv D cl E A ad) C0 hW hS hw dX8_mostOf_13
theorem cd_X8_isGap : yX8_isGap.cls = RX8 ∧ yX8_isGap.cls ≠ "java/lang/invoke/MethodHandle" ∧ yX8_isGap.cls ≠ "java/lang/invoke/VarHandle" ∧ (parseMethodDescriptor yX8_isGap.desc).map (fun d => d.parameters.length) = some 2 := by decide +kernel
/-! GleanersForGapsModel.isGap(II)Z -/
def mmw_isGap  (a1 : Int32) (a2 : Int32) (σ : gg_S) (Q : Int32 → gg_S → Prop) : Prop :=
    vp_in a1 5 ∧ ((((gg_g σ 5 a1.toNatClampNeg) ≤ a2) → Q (0 : Int32) σ) ∧ (¬ ((gg_g σ 5 a1.toNatClampNeg) ≤ a2) → vp_in a1 5 ∧ ((((((gg_g σ 4 a1.toNatClampNeg) >>> (a2 &&& 31)) &&& (1 : Int32)) = 0) → Q (1 : Int32) σ) ∧ (¬ ((((gg_g σ 4 a1.toNatClampNeg) >>> (a2 &&& 31)) &&& (1 : Int32)) = 0) → Q (0 : Int32) σ))))
abbrev mmr_isGap : Room := { frames := 0, cells := 0, slots := 0, locals := 0 }
set_option maxHeartbeats 4000000 in
set_option maxRecDepth 100000 in
theorem mmt_isGap (l : Launch) {D : va_G} {cl : List vw_C} {E : ClassId × ClassId} {A : Nat → Prop} {ad : Nat → Nat}  (a1 : Int32) (a2 : Int32) (σ : gg_S) {Q : Int32 → gg_S → Prop} (hw : mmw_isGap a1 a2 σ Q) :
    Met l yX8_isGap (ws_ yX8_isGap cX8_isGap 3 (some .boolean)) mmr_isGap (va_Pc [.ref (ad 0), .int a1, .int a2] (fun U => mm_W D cl E A ad σ U U.heap)) (va_Qi (fun r u => (r = 0 ∨ r = 1) ∧ Q r u) (fun u t => mm_W D cl E A ad u t t.heap) A) 0 0 A := by
  refine gg_entry (W0 := fun s H => mm_W D cl E A ad σ s H) (by decide) (Nat.le_of_ble_eq_true rfl) ?_
  intro p e s m args below meth c C0 hW ls hl
  have C0 : gg_C p s m args meth c RX8 cX8_isGap 3 (some .boolean) := C0
  obtain ⟨hx, hb, hml, hown, hts, hr, hlocks⟩ := id C0
  have hl : lv_has ls 3 [(0, .ref (ad 0)), (1, .int a1), (2, .int a2)] := hl
  have hS : va_S A s.heap s.heap [] := va_S.rf
  unfold mmw_isGap at hw
  refine lv_iload_n hx hb dX8_isGap_0 rfl (lv_at hl 2 rfl) ?_
  refine lv_aload_n hx hb dX8_isGap_1 rfl (lv_at hl 0 rfl) ?_
  refine mm_getr hx hb hts hown hW 9 5 (by decide) q1280 dX8_isGap_2 ?_
  refine lv_iload_n hx hb dX8_isGap_5 rfl (lv_at hl 1 rfl) ?_
  obtain ⟨hin, hw⟩ := hw
  refine mm_ald hx hb hW 4 (by decide) hin dX8_isGap_6 ?_
  refine lv_icmp_ge (tgt := 27) hx hb dX8_isGap_7 (by decide) (fun c2 => ?_) (fun c2 => ?_)
  · have hw := hw.1 c2
    refine lv_iconst (v := (0 : Int32)) hx hb dX8_isGap_27 (by decide) ?_
    exact gg_zret (mm_mv D cl E A ad) C0 hW hS (Or.inl rfl) hw dX8_isGap_28
  · have hw := hw.2 c2
    refine lv_aload_n hx hb dX8_isGap_10 rfl (lv_at hl 0 rfl) ?_
    refine mm_getr hx hb hts hown hW 8 4 (by decide) q1279 dX8_isGap_11 ?_
    refine lv_iload_n hx hb dX8_isGap_14 rfl (lv_at hl 1 rfl) ?_
    obtain ⟨hin, hw⟩ := hw
    refine mm_ald hx hb hW 3 (by decide) hin dX8_isGap_15 ?_
    refine lv_iload_n hx hb dX8_isGap_16 rfl (lv_at hl 2 rfl) ?_
    refine lv_ishr hx hb dX8_isGap_17 ?_
    refine lv_iconst (v := (1 : Int32)) hx hb dX8_isGap_18 (by decide) ?_
    refine lv_iand hx hb dX8_isGap_19 ?_
    refine lv_if_ne (tgt := 27) hx hb dX8_isGap_20 (by decide) (fun c1 => ?_) (fun c1 => ?_)
    · have hw := hw.2 c1
      refine lv_iconst (v := (0 : Int32)) hx hb dX8_isGap_27 (by decide) ?_
      exact gg_zret (mm_mv D cl E A ad) C0 hW hS (Or.inl rfl) hw dX8_isGap_28
    · have hw := hw.1 c1
      refine lv_iconst (v := (1 : Int32)) hx hb dX8_isGap_23 (by decide) ?_
      refine lv_goto (tgt := 28) hx hb dX8_isGap_24 (by decide) ?_
      exact gg_zret (mm_mv D cl E A ad) C0 hW hS (Or.inr rfl) hw dX8_isGap_28
theorem cd_X8_runsOf : yX8_runsOf.cls = RX8 ∧ yX8_runsOf.cls ≠ "java/lang/invoke/MethodHandle" ∧ yX8_runsOf.cls ≠ "java/lang/invoke/VarHandle" ∧ (parseMethodDescriptor yX8_runsOf.desc).map (fun d => d.parameters.length) = some 1 := by decide +kernel
/-! GleanersForGapsModel.runsOf(I)I -/
def mmw_runsOf_55  (Q : Int32 → gg_S → Prop) (K4 : Int32 → Int32 → Int32 → gg_S → Prop) (x1 : Int32) (x2 : Int32) (x3 : Int32) (σ : gg_S) : Prop :=
    (mmw_isGap x1 x3 σ (fun r4 σ3 => (((r4 = 0) → K4 x1 x2 (x3 + (1 : Int32)) σ3) ∧ (¬ (r4 = 0) → vp_in (x2 - (1 : Int32)) 24 ∧ vp_in (x2 - (1 : Int32)) 24 ∧ (∀ σ5 : gg_S, σ5 = gg_s σ3 9 (x2 - (1 : Int32)).toNatClampNeg ((gg_g σ3 9 (x2 - (1 : Int32)).toNatClampNeg) + (1 : Int32)) → K4 x1 x2 (x3 + (1 : Int32)) σ5)))))
def mmw_runsOf_38  (Q : Int32 → gg_S → Prop) (K4 : Int32 → Int32 → Int32 → gg_S → Prop) (x1 : Int32) (x2 : Int32) (x3 : Int32) (σ : gg_S) : Prop :=
    vp_in x2 24 ∧ (∀ σ7 : gg_S, σ7 = gg_s σ 8 x2.toNatClampNeg x3 → vp_in x2 24 ∧ (∀ σ8 : gg_S, σ8 = gg_s σ7 9 x2.toNatClampNeg (0 : Int32) → mmw_runsOf_55 Q K4 x1 (x2 + (1 : Int32)) x3 σ8))
def mmw_runsOf_4  (Q : Int32 → gg_S → Prop)  : Nat → Int32 → Int32 → Int32 → gg_S → Prop
  | 0, _, _, _, _ => False
  | n + 1, x1, x2, x3, σ =>
    vp_in x1 5 ∧ ((((gg_g σ 5 x1.toNatClampNeg) ≤ x3) → Q x2 σ) ∧ (¬ ((gg_g σ 5 x1.toNatClampNeg) ≤ x3) → (mmw_isGap x1 x3 σ (fun r2 σ1 => (((r2 = 0) → mmw_runsOf_55 Q (fun y0 y1 y2 τ => mmw_runsOf_4 Q n y0 y1 y2 τ) x1 x2 x3 σ1) ∧ (¬ (r2 = 0) → (((x3 = 0) → mmw_runsOf_38 Q (fun y0 y1 y2 τ => mmw_runsOf_4 Q n y0 y1 y2 τ) x1 x2 x3 σ1) ∧ (¬ (x3 = 0) → (mmw_isGap x1 (x3 - (1 : Int32)) σ1 (fun r10 σ9 => (((r10 = 0) → mmw_runsOf_38 Q (fun y0 y1 y2 τ => mmw_runsOf_4 Q n y0 y1 y2 τ) x1 x2 x3 σ9) ∧ (¬ (r10 = 0) → mmw_runsOf_55 Q (fun y0 y1 y2 τ => mmw_runsOf_4 Q n y0 y1 y2 τ) x1 x2 x3 σ9))))))))))))
def mmw_runsOf  (a1 : Int32) (σ : gg_S) (Q : Int32 → gg_S → Prop) : Prop :=
    ∃ k9, mmw_runsOf_4 Q k9 a1 (0 : Int32) (0 : Int32) σ
abbrev mmr_runsOf : Room := { frames := 1, cells := 0, slots := 0, locals := 22 }
set_option maxHeartbeats 4000000 in
set_option maxRecDepth 100000 in
theorem mmk_runsOf_55 {p : Program} {l : Launch} {e : Env} {s : State} {m : MethodId} {args : Array Value} {below : List Frame} {meth : Method} {c : Code} {D : va_G} {cl : List vw_C} {E : ClassId × ClassId} {A : Nat → Prop} {ad : Nat → Nat} {Q : Int32 → gg_S → Prop} {K4 : Int32 → Int32 → Int32 → gg_S → Prop}  (C0 : gg_C p s m args meth c RX8 cX8_runsOf 4 (some .int)) (hK4 : ∀ (x1 : Int32) (x2 : Int32) (x3 : Int32) (σ : gg_S) (H : Heap) (locs : List Loc) (ls : Array Slot), K4 x1 x2 x3 σ → mm_W D cl E A ad σ s H → va_S A s.heap H locs → lv_has ls 4 [(0, .ref (ad 0)), (1, .int x1), (2, .int x2), (3, .int x3)] → W p l e mmr_runsOf s m args below meth c H locs 0 0 (MQ below (va_Qi Q (fun u t => mm_W D cl E A ad u t t.heap) A) args s 0 0 A) (F0 m 4 ls [])) :
    ∀ (x1 : Int32) (x2 : Int32) (x3 : Int32) (σ : gg_S) (H : Heap) (locs : List Loc) (ls : Array Slot), mmw_runsOf_55 Q K4 x1 x2 x3 σ → mm_W D cl E A ad σ s H → va_S A s.heap H locs → lv_has ls 4 [(0, .ref (ad 0)), (1, .int x1), (2, .int x2), (3, .int x3)] → W p l e mmr_runsOf s m args below meth c H locs 0 0 (MQ below (va_Qi Q (fun u t => mm_W D cl E A ad u t t.heap) A) args s 0 0 A) (F0 m 55 ls []) := by
  obtain ⟨hx, hb, hml, hown, hts, hr, hlocks⟩ := id C0
  intro x1 x2 x3 σ H locs ls hw hW hS hl
  unfold mmw_runsOf_55 at hw
  refine lv_aload_n hx hb dX8_runsOf_55 rfl (lv_at hl 0 rfl) ?_
  refine lv_iload_n hx hb dX8_runsOf_56 rfl (lv_at hl 1 rfl) ?_
  refine lv_iload_n hx hb dX8_runsOf_57 rfl (lv_at hl 3 rfl) ?_
  refine mm_VI ⟨hx, hb, hml, hown, hts⟩ (mmt_isGap l _ _ _ hw) (cwV 2 hts (lw_V q1535 q1537 qs81 q120 q1538) rfl rfl rfl cd_X8_isGap ⟨Nat.le_of_ble_eq_true rfl, Nat.le_of_ble_eq_true rfl⟩) hW (mm_recv hW) hS rfl hl.1 rfl (Nat.le_of_ble_eq_true rfl) dX8_runsOf_58 (fun r4 σ3 H locs hw hW hS => ?_)
  obtain ⟨hz_r4, hw⟩ := hw
  refine lv_if_eq (tgt := 76) hx hb dX8_runsOf_61 (by decide) (fun c6 => ?_) (fun c6 => ?_)
  · have hw := hw.1 c6
    refine lv_iinc (v := (x3 + (1 : Int32))) (lv' := [(3, .int (x3 + (1 : Int32))), (0, .ref (ad 0)), (1, .int x1), (2, .int x2)]) hx hb dX8_runsOf_76 hl (k := 3) rfl rfl (by decide) rfl (fun ls hl => ?_)
    refine lv_goto (tgt := 4) hx hb dX8_runsOf_79 (by decide) ?_
    exact hK4 x1 x2 (x3 + (1 : Int32)) σ3 _ _ _ hw hW hS (lv_sub hl [1, 2, 3, 0] rfl)
  · have hw := hw.2 c6
    refine lv_aload_n hx hb dX8_runsOf_64 rfl (lv_at hl 0 rfl) ?_
    refine mm_getr hx hb hts hown hW 29 9 (by decide) q1300 dX8_runsOf_65 ?_
    refine lv_iload_n hx hb dX8_runsOf_68 rfl (lv_at hl 2 rfl) ?_
    refine lv_iconst (v := (1 : Int32)) hx hb dX8_runsOf_69 (by decide) ?_
    refine lv_isub hx hb dX8_runsOf_70 ?_
    refine lv_dup2_11 hx hb dX8_runsOf_71 rfl rfl ?_
    obtain ⟨hin, hw⟩ := hw
    refine mm_ald hx hb hW 8 (by decide) hin dX8_runsOf_72 ?_
    refine lv_iconst (v := (1 : Int32)) hx hb dX8_runsOf_73 (by decide) ?_
    refine lv_iadd hx hb dX8_runsOf_74 ?_
    obtain ⟨hin, hw⟩ := hw
    refine mm_ast hx hb hW hS 8 (by decide) hin dX8_runsOf_75 (fun H locs hW hS => ?_)
    obtain ⟨σ5, eσ5⟩ : ∃ z, z = gg_s σ3 9 (x2 - (1 : Int32)).toNatClampNeg ((gg_g σ3 9 (x2 - (1 : Int32)).toNatClampNeg) + (1 : Int32)) := ⟨_, rfl⟩
    rw [← eσ5] at hW
    have hw := hw σ5 eσ5
    refine lv_iinc (v := (x3 + (1 : Int32))) (lv' := [(3, .int (x3 + (1 : Int32))), (0, .ref (ad 0)), (1, .int x1), (2, .int x2)]) hx hb dX8_runsOf_76 hl (k := 3) rfl rfl (by decide) rfl (fun ls hl => ?_)
    refine lv_goto (tgt := 4) hx hb dX8_runsOf_79 (by decide) ?_
    exact hK4 x1 x2 (x3 + (1 : Int32)) σ5 _ _ _ hw hW hS (lv_sub hl [1, 2, 3, 0] rfl)
set_option maxHeartbeats 4000000 in
set_option maxRecDepth 100000 in
theorem mmk_runsOf_38 {p : Program} {l : Launch} {e : Env} {s : State} {m : MethodId} {args : Array Value} {below : List Frame} {meth : Method} {c : Code} {D : va_G} {cl : List vw_C} {E : ClassId × ClassId} {A : Nat → Prop} {ad : Nat → Nat} {Q : Int32 → gg_S → Prop} {K4 : Int32 → Int32 → Int32 → gg_S → Prop}  (C0 : gg_C p s m args meth c RX8 cX8_runsOf 4 (some .int)) (hK4 : ∀ (x1 : Int32) (x2 : Int32) (x3 : Int32) (σ : gg_S) (H : Heap) (locs : List Loc) (ls : Array Slot), K4 x1 x2 x3 σ → mm_W D cl E A ad σ s H → va_S A s.heap H locs → lv_has ls 4 [(0, .ref (ad 0)), (1, .int x1), (2, .int x2), (3, .int x3)] → W p l e mmr_runsOf s m args below meth c H locs 0 0 (MQ below (va_Qi Q (fun u t => mm_W D cl E A ad u t t.heap) A) args s 0 0 A) (F0 m 4 ls [])) :
    ∀ (x1 : Int32) (x2 : Int32) (x3 : Int32) (σ : gg_S) (H : Heap) (locs : List Loc) (ls : Array Slot), mmw_runsOf_38 Q K4 x1 x2 x3 σ → mm_W D cl E A ad σ s H → va_S A s.heap H locs → lv_has ls 4 [(0, .ref (ad 0)), (1, .int x1), (2, .int x2), (3, .int x3)] → W p l e mmr_runsOf s m args below meth c H locs 0 0 (MQ below (va_Qi Q (fun u t => mm_W D cl E A ad u t t.heap) A) args s 0 0 A) (F0 m 38 ls []) := by
  obtain ⟨hx, hb, hml, hown, hts, hr, hlocks⟩ := id C0
  intro x1 x2 x3 σ H locs ls hw hW hS hl
  unfold mmw_runsOf_38 at hw
  refine lv_aload_n hx hb dX8_runsOf_38 rfl (lv_at hl 0 rfl) ?_
  refine mm_getr hx hb hts hown hW 28 8 (by decide) q1299 dX8_runsOf_39 ?_
  refine lv_iload_n hx hb dX8_runsOf_42 rfl (lv_at hl 2 rfl) ?_
  refine lv_iload_n hx hb dX8_runsOf_43 rfl (lv_at hl 3 rfl) ?_
  obtain ⟨hin, hw⟩ := hw
  refine mm_ast hx hb hW hS 7 (by decide) hin dX8_runsOf_44 (fun H locs hW hS => ?_)
  obtain ⟨σ7, eσ7⟩ : ∃ z, z = gg_s σ 8 x2.toNatClampNeg x3 := ⟨_, rfl⟩
  rw [← eσ7] at hW
  have hw := hw σ7 eσ7
  refine lv_aload_n hx hb dX8_runsOf_45 rfl (lv_at hl 0 rfl) ?_
  refine mm_getr hx hb hts hown hW 29 9 (by decide) q1300 dX8_runsOf_46 ?_
  refine lv_iload_n hx hb dX8_runsOf_49 rfl (lv_at hl 2 rfl) ?_
  refine lv_iconst (v := (0 : Int32)) hx hb dX8_runsOf_50 (by decide) ?_
  obtain ⟨hin, hw⟩ := hw
  refine mm_ast hx hb hW hS 8 (by decide) hin dX8_runsOf_51 (fun H locs hW hS => ?_)
  obtain ⟨σ8, eσ8⟩ : ∃ z, z = gg_s σ7 9 x2.toNatClampNeg (0 : Int32) := ⟨_, rfl⟩
  rw [← eσ8] at hW
  have hw := hw σ8 eσ8
  refine lv_iinc (v := (x2 + (1 : Int32))) (lv' := [(2, .int (x2 + (1 : Int32))), (0, .ref (ad 0)), (1, .int x1), (3, .int x3)]) hx hb dX8_runsOf_52 hl (k := 2) rfl rfl (by decide) rfl (fun ls hl => ?_)
  exact mmk_runsOf_55  C0  hK4 x1 (x2 + (1 : Int32)) x3 σ8 _ _ _ hw hW hS (lv_sub hl [1, 2, 0, 3] rfl)
set_option maxHeartbeats 4000000 in
set_option maxRecDepth 100000 in
theorem mmk_runsOf_4 {p : Program} {l : Launch} {e : Env} {s : State} {m : MethodId} {args : Array Value} {below : List Frame} {meth : Method} {c : Code} {D : va_G} {cl : List vw_C} {E : ClassId × ClassId} {A : Nat → Prop} {ad : Nat → Nat} {Q : Int32 → gg_S → Prop}   (C0 : gg_C p s m args meth c RX8 cX8_runsOf 4 (some .int))  :
    ∀ n : Nat, ∀ (x1 : Int32) (x2 : Int32) (x3 : Int32) (σ : gg_S) (H : Heap) (locs : List Loc) (ls : Array Slot), mmw_runsOf_4 Q n x1 x2 x3 σ → mm_W D cl E A ad σ s H → va_S A s.heap H locs → lv_has ls 4 [(0, .ref (ad 0)), (1, .int x1), (2, .int x2), (3, .int x3)] → W p l e mmr_runsOf s m args below meth c H locs 0 0 (MQ below (va_Qi Q (fun u t => mm_W D cl E A ad u t t.heap) A) args s 0 0 A) (F0 m 4 ls []) := by
  obtain ⟨hx, hb, hml, hown, hts, hr, hlocks⟩ := id C0
  intro n
  induction n with
  | zero =>
    intro x1 x2 x3 σ H locs ls hw hW hS hl
    exact absurd hw (by unfold mmw_runsOf_4; exact id)
  | succ n ih =>
    intro x1 x2 x3 σ H locs ls hw hW hS hl
    unfold mmw_runsOf_4 at hw
    refine lv_iload_n hx hb dX8_runsOf_4 rfl (lv_at hl 3 rfl) ?_
    refine lv_aload_n hx hb dX8_runsOf_5 rfl (lv_at hl 0 rfl) ?_
    refine mm_getr hx hb hts hown hW 9 5 (by decide) q1280 dX8_runsOf_6 ?_
    refine lv_iload_n hx hb dX8_runsOf_9 rfl (lv_at hl 1 rfl) ?_
    obtain ⟨hin, hw⟩ := hw
    refine mm_ald hx hb hW 4 (by decide) hin dX8_runsOf_10 ?_
    refine lv_icmp_ge (tgt := 82) hx hb dX8_runsOf_11 (by decide) (fun c14 => ?_) (fun c14 => ?_)
    · have hw := hw.1 c14
      refine lv_iload_n hx hb dX8_runsOf_82 rfl (lv_at hl 2 rfl) ?_
      exact gg_iret (mm_mv D cl E A ad) C0 hW hS hw dX8_runsOf_83
    · have hw := hw.2 c14
      refine lv_aload_n hx hb dX8_runsOf_14 rfl (lv_at hl 0 rfl) ?_
      refine lv_iload_n hx hb dX8_runsOf_15 rfl (lv_at hl 1 rfl) ?_
      refine lv_iload_n hx hb dX8_runsOf_16 rfl (lv_at hl 3 rfl) ?_
      refine mm_VI ⟨hx, hb, hml, hown, hts⟩ (mmt_isGap l _ _ _ hw) (cwV 2 hts (lw_V q1535 q1537 qs81 q120 q1538) rfl rfl rfl cd_X8_isGap ⟨Nat.le_of_ble_eq_true rfl, Nat.le_of_ble_eq_true rfl⟩) hW (mm_recv hW) hS rfl hl.1 rfl (Nat.le_of_ble_eq_true rfl) dX8_runsOf_17 (fun r2 σ1 H locs hw hW hS => ?_)
      obtain ⟨hz_r2, hw⟩ := hw
      refine lv_if_eq (tgt := 55) hx hb dX8_runsOf_20 (by decide) (fun c13 => ?_) (fun c13 => ?_)
      · have hw := hw.1 c13
        exact mmk_runsOf_55  C0  (fun y0 y1 y2 τ H9 l9 s9 => ih y0 y1 y2 τ H9 l9 s9) x1 x2 x3 σ1 _ _ _ hw hW hS (hl)
      · have hw := hw.2 c13
        refine lv_iload_n hx hb dX8_runsOf_23 rfl (lv_at hl 3 rfl) ?_
        refine lv_if_eq (tgt := 38) hx hb dX8_runsOf_24 (by decide) (fun c12 => ?_) (fun c12 => ?_)
        · have hw := hw.1 c12
          exact mmk_runsOf_38  C0  (fun y0 y1 y2 τ H9 l9 s9 => ih y0 y1 y2 τ H9 l9 s9) x1 x2 x3 σ1 _ _ _ hw hW hS (hl)
        · have hw := hw.2 c12
          refine lv_aload_n hx hb dX8_runsOf_27 rfl (lv_at hl 0 rfl) ?_
          refine lv_iload_n hx hb dX8_runsOf_28 rfl (lv_at hl 1 rfl) ?_
          refine lv_iload_n hx hb dX8_runsOf_29 rfl (lv_at hl 3 rfl) ?_
          refine lv_iconst (v := (1 : Int32)) hx hb dX8_runsOf_30 (by decide) ?_
          refine lv_isub hx hb dX8_runsOf_31 ?_
          refine mm_VI ⟨hx, hb, hml, hown, hts⟩ (mmt_isGap l _ _ _ hw) (cwV 2 hts (lw_V q1535 q1537 qs81 q120 q1538) rfl rfl rfl cd_X8_isGap ⟨Nat.le_of_ble_eq_true rfl, Nat.le_of_ble_eq_true rfl⟩) hW (mm_recv hW) hS rfl hl.1 rfl (Nat.le_of_ble_eq_true rfl) dX8_runsOf_32 (fun r10 σ9 H locs hw hW hS => ?_)
          obtain ⟨hz_r10, hw⟩ := hw
          refine lv_if_ne (tgt := 55) hx hb dX8_runsOf_35 (by decide) (fun c11 => ?_) (fun c11 => ?_)
          · have hw := hw.2 c11
            exact mmk_runsOf_55  C0  (fun y0 y1 y2 τ H9 l9 s9 => ih y0 y1 y2 τ H9 l9 s9) x1 x2 x3 σ9 _ _ _ hw hW hS (hl)
          · have hw := hw.1 c11
            exact mmk_runsOf_38  C0  (fun y0 y1 y2 τ H9 l9 s9 => ih y0 y1 y2 τ H9 l9 s9) x1 x2 x3 σ9 _ _ _ hw hW hS (hl)
set_option maxHeartbeats 4000000 in
set_option maxRecDepth 100000 in
theorem mmt_runsOf (l : Launch) {D : va_G} {cl : List vw_C} {E : ClassId × ClassId} {A : Nat → Prop} {ad : Nat → Nat}  (a1 : Int32) (σ : gg_S) {Q : Int32 → gg_S → Prop} (hw : mmw_runsOf a1 σ Q) :
    Met l yX8_runsOf (ws_ yX8_runsOf cX8_runsOf 4 (some .int)) mmr_runsOf (va_Pc [.ref (ad 0), .int a1] (fun U => mm_W D cl E A ad σ U U.heap)) (va_Qi Q (fun u t => mm_W D cl E A ad u t t.heap) A) 0 0 A := by
  refine gg_entry (W0 := fun s H => mm_W D cl E A ad σ s H) (by decide) (Nat.le_of_ble_eq_true rfl) ?_
  intro p e s m args below meth c C0 hW ls hl
  have C0 : gg_C p s m args meth c RX8 cX8_runsOf 4 (some .int) := C0
  obtain ⟨hx, hb, hml, hown, hts, hr, hlocks⟩ := id C0
  have hl : lv_has ls 4 [(0, .ref (ad 0)), (1, .int a1)] := hl
  have hS : va_S A s.heap s.heap [] := va_S.rf
  unfold mmw_runsOf at hw
  refine lv_iconst (v := (0 : Int32)) hx hb dX8_runsOf_0 (by decide) ?_
  refine lv_istore_n (lv' := [(2, .int (0 : Int32)), (0, .ref (ad 0)), (1, .int a1)]) hx hb dX8_runsOf_1 rfl hl (by decide) rfl (fun ls hl => ?_)
  refine lv_iconst (v := (0 : Int32)) hx hb dX8_runsOf_2 (by decide) ?_
  refine lv_istore_n (lv' := [(3, .int (0 : Int32)), (2, .int (0 : Int32)), (0, .ref (ad 0)), (1, .int a1)]) hx hb dX8_runsOf_3 rfl hl (by decide) rfl (fun ls hl => ?_)
  obtain ⟨n9, hw⟩ := hw
  exact mmk_runsOf_4  C0   n9 a1 (0 : Int32) (0 : Int32) σ _ _ _ hw hW hS (lv_sub hl [2, 3, 1, 0] rfl)
theorem cd_X8_greatestOf : yX8_greatestOf.cls = RX8 ∧ yX8_greatestOf.cls ≠ "java/lang/invoke/MethodHandle" ∧ yX8_greatestOf.cls ≠ "java/lang/invoke/VarHandle" ∧ (parseMethodDescriptor yX8_greatestOf.desc).map (fun d => d.parameters.length) = some 1 := by decide +kernel
/-! GleanersForGapsModel.greatestOf(I)I -/
def mmw_greatestOf_39  (Q : Int32 → gg_S → Prop) (K11 : Int32 → Int32 → Int32 → gg_S → Prop) (x2 : Int32) (x4 : Int32) (s0 : Int32) (σ : gg_S) : Prop :=
    K11 x2 s0 (x4 + (1 : Int32)) σ
def mmw_greatestOf_11  (Q : Int32 → gg_S → Prop)  : Nat → Int32 → Int32 → Int32 → gg_S → Prop
  | 0, _, _, _, _ => False
  | n + 1, x2, x3, x4, σ =>
    (((x2 ≤ x4) → Q x3 σ) ∧ (¬ (x2 ≤ x4) → vp_in x4 24 ∧ ((((gg_g σ 9 x4.toNatClampNeg) ≤ x3) → mmw_greatestOf_39 Q (fun y0 y1 y2 τ => mmw_greatestOf_11 Q n y0 y1 y2 τ) x2 x4 x3 σ) ∧ (¬ ((gg_g σ 9 x4.toNatClampNeg) ≤ x3) → vp_in x4 24 ∧ mmw_greatestOf_39 Q (fun y0 y1 y2 τ => mmw_greatestOf_11 Q n y0 y1 y2 τ) x2 x4 (gg_g σ 9 x4.toNatClampNeg) σ))))
def mmw_greatestOf  (a1 : Int32) (σ : gg_S) (Q : Int32 → gg_S → Prop) : Prop :=
    (mmw_runsOf a1 σ (fun r2 σ1 => ∃ k9, mmw_greatestOf_11 Q k9 r2 (0 : Int32) (0 : Int32) σ1))
abbrev mmr_greatestOf : Room := { frames := 2, cells := 0, slots := 0, locals := 45 }
set_option maxHeartbeats 4000000 in
set_option maxRecDepth 100000 in
theorem mmk_greatestOf_39 {p : Program} {l : Launch} {e : Env} {s : State} {m : MethodId} {args : Array Value} {below : List Frame} {meth : Method} {c : Code} {D : va_G} {cl : List vw_C} {E : ClassId × ClassId} {A : Nat → Prop} {ad : Nat → Nat} {Q : Int32 → gg_S → Prop} {K11 : Int32 → Int32 → Int32 → gg_S → Prop}  (C0 : gg_C p s m args meth c RX8 cX8_greatestOf 5 (some .int)) (hK11 : ∀ (x2 : Int32) (x3 : Int32) (x4 : Int32) (σ : gg_S) (H : Heap) (locs : List Loc) (ls : Array Slot), K11 x2 x3 x4 σ → mm_W D cl E A ad σ s H → va_S A s.heap H locs → lv_has ls 5 [(0, .ref (ad 0)), (2, .int x2), (3, .int x3), (4, .int x4)] → W p l e mmr_greatestOf s m args below meth c H locs 0 0 (MQ below (va_Qi Q (fun u t => mm_W D cl E A ad u t t.heap) A) args s 0 0 A) (F0 m 11 ls [])) :
    ∀ (x2 : Int32) (x4 : Int32) (s0 : Int32) (σ : gg_S) (H : Heap) (locs : List Loc) (ls : Array Slot), mmw_greatestOf_39 Q K11 x2 x4 s0 σ → mm_W D cl E A ad σ s H → va_S A s.heap H locs → lv_has ls 5 [(0, .ref (ad 0)), (2, .int x2), (4, .int x4)] → W p l e mmr_greatestOf s m args below meth c H locs 0 0 (MQ below (va_Qi Q (fun u t => mm_W D cl E A ad u t t.heap) A) args s 0 0 A) (F0 m 39 ls [.int s0]) := by
  obtain ⟨hx, hb, hml, hown, hts, hr, hlocks⟩ := id C0
  intro x2 x4 s0 σ H locs ls hw hW hS hl
  unfold mmw_greatestOf_39 at hw
  refine lv_istore_n (lv' := [(3, .int s0), (0, .ref (ad 0)), (2, .int x2), (4, .int x4)]) hx hb dX8_greatestOf_39 rfl hl (by decide) rfl (fun ls hl => ?_)
  refine lv_iinc (v := (x4 + (1 : Int32))) (lv' := [(4, .int (x4 + (1 : Int32))), (3, .int s0), (0, .ref (ad 0)), (2, .int x2)]) hx hb dX8_greatestOf_40 hl (k := 3) rfl rfl (by decide) rfl (fun ls hl => ?_)
  refine lv_goto (tgt := 11) hx hb dX8_greatestOf_43 (by decide) ?_
  exact hK11 x2 s0 (x4 + (1 : Int32)) σ _ _ _ hw hW hS (lv_sub hl [2, 3, 1, 0] rfl)
set_option maxHeartbeats 4000000 in
set_option maxRecDepth 100000 in
theorem mmk_greatestOf_11 {p : Program} {l : Launch} {e : Env} {s : State} {m : MethodId} {args : Array Value} {below : List Frame} {meth : Method} {c : Code} {D : va_G} {cl : List vw_C} {E : ClassId × ClassId} {A : Nat → Prop} {ad : Nat → Nat} {Q : Int32 → gg_S → Prop}   (C0 : gg_C p s m args meth c RX8 cX8_greatestOf 5 (some .int))  :
    ∀ n : Nat, ∀ (x2 : Int32) (x3 : Int32) (x4 : Int32) (σ : gg_S) (H : Heap) (locs : List Loc) (ls : Array Slot), mmw_greatestOf_11 Q n x2 x3 x4 σ → mm_W D cl E A ad σ s H → va_S A s.heap H locs → lv_has ls 5 [(0, .ref (ad 0)), (2, .int x2), (3, .int x3), (4, .int x4)] → W p l e mmr_greatestOf s m args below meth c H locs 0 0 (MQ below (va_Qi Q (fun u t => mm_W D cl E A ad u t t.heap) A) args s 0 0 A) (F0 m 11 ls []) := by
  obtain ⟨hx, hb, hml, hown, hts, hr, hlocks⟩ := id C0
  intro n
  induction n with
  | zero =>
    intro x2 x3 x4 σ H locs ls hw hW hS hl
    exact absurd hw (by unfold mmw_greatestOf_11; exact id)
  | succ n ih =>
    intro x2 x3 x4 σ H locs ls hw hW hS hl
    unfold mmw_greatestOf_11 at hw
    refine lv_iload hx hb dX8_greatestOf_11 (lv_at hl 3 rfl) ?_
    refine lv_iload_n hx hb dX8_greatestOf_13 rfl (lv_at hl 1 rfl) ?_
    refine lv_icmp_ge (tgt := 46) hx hb dX8_greatestOf_14 (by decide) (fun c4 => ?_) (fun c4 => ?_)
    · have hw := hw.1 c4
      refine lv_iload_n hx hb dX8_greatestOf_46 rfl (lv_at hl 2 rfl) ?_
      exact gg_iret (mm_mv D cl E A ad) C0 hW hS hw dX8_greatestOf_47
    · have hw := hw.2 c4
      refine lv_aload_n hx hb dX8_greatestOf_17 rfl (lv_at hl 0 rfl) ?_
      refine mm_getr hx hb hts hown hW 29 9 (by decide) q1300 dX8_greatestOf_18 ?_
      refine lv_iload hx hb dX8_greatestOf_21 (lv_at hl 3 rfl) ?_
      obtain ⟨hin, hw⟩ := hw
      refine mm_ald hx hb hW 8 (by decide) hin dX8_greatestOf_23 ?_
      refine lv_iload_n hx hb dX8_greatestOf_24 rfl (lv_at hl 2 rfl) ?_
      refine lv_icmp_le (tgt := 38) hx hb dX8_greatestOf_25 (by decide) (fun c3 => ?_) (fun c3 => ?_)
      · have hw := hw.1 c3
        refine lv_iload_n hx hb dX8_greatestOf_38 rfl (lv_at hl 2 rfl) ?_
        exact mmk_greatestOf_39  C0  (fun y0 y1 y2 τ H9 l9 s9 => ih y0 y1 y2 τ H9 l9 s9) x2 x4 x3 σ _ _ _ hw hW hS (lv_sub hl [0, 1, 3] rfl)
      · have hw := hw.2 c3
        refine lv_aload_n hx hb dX8_greatestOf_28 rfl (lv_at hl 0 rfl) ?_
        refine mm_getr hx hb hts hown hW 29 9 (by decide) q1300 dX8_greatestOf_29 ?_
        refine lv_iload hx hb dX8_greatestOf_32 (lv_at hl 3 rfl) ?_
        obtain ⟨hin, hw⟩ := hw
        refine mm_ald hx hb hW 8 (by decide) hin dX8_greatestOf_34 ?_
        refine lv_goto (tgt := 39) hx hb dX8_greatestOf_35 (by decide) ?_
        exact mmk_greatestOf_39  C0  (fun y0 y1 y2 τ H9 l9 s9 => ih y0 y1 y2 τ H9 l9 s9) x2 x4 (gg_g σ 9 x4.toNatClampNeg) σ _ _ _ hw hW hS (lv_sub hl [0, 1, 3] rfl)
set_option maxHeartbeats 4000000 in
set_option maxRecDepth 100000 in
theorem mmt_greatestOf (l : Launch) {D : va_G} {cl : List vw_C} {E : ClassId × ClassId} {A : Nat → Prop} {ad : Nat → Nat}  (a1 : Int32) (σ : gg_S) {Q : Int32 → gg_S → Prop} (hw : mmw_greatestOf a1 σ Q) :
    Met l yX8_greatestOf (ws_ yX8_greatestOf cX8_greatestOf 5 (some .int)) mmr_greatestOf (va_Pc [.ref (ad 0), .int a1] (fun U => mm_W D cl E A ad σ U U.heap)) (va_Qi Q (fun u t => mm_W D cl E A ad u t t.heap) A) 0 0 A := by
  refine gg_entry (W0 := fun s H => mm_W D cl E A ad σ s H) (by decide) (Nat.le_of_ble_eq_true rfl) ?_
  intro p e s m args below meth c C0 hW ls hl
  have C0 : gg_C p s m args meth c RX8 cX8_greatestOf 5 (some .int) := C0
  obtain ⟨hx, hb, hml, hown, hts, hr, hlocks⟩ := id C0
  have hl : lv_has ls 5 [(0, .ref (ad 0)), (1, .int a1)] := hl
  have hS : va_S A s.heap s.heap [] := va_S.rf
  unfold mmw_greatestOf at hw
  refine lv_aload_n hx hb dX8_greatestOf_0 rfl (lv_at hl 0 rfl) ?_
  refine lv_iload_n hx hb dX8_greatestOf_1 rfl (lv_at hl 1 rfl) ?_
  refine mm_VI ⟨hx, hb, hml, hown, hts⟩ (mmt_runsOf l _ _ hw) (cwV 1 hts (lw_V q1531 q1533 qs80 q120 q1534) rfl rfl rfl cd_X8_runsOf ⟨Nat.le_of_ble_eq_true rfl, Nat.le_of_ble_eq_true rfl⟩) hW (mm_recv hW) hS rfl hl.1 rfl (Nat.le_of_ble_eq_true rfl) dX8_greatestOf_2 (fun r2 σ1 H locs hw hW hS => ?_)
  refine lv_istore_n (lv' := [(2, .int r2), (0, .ref (ad 0)), (1, .int a1)]) hx hb dX8_greatestOf_5 rfl hl (by decide) rfl (fun ls hl => ?_)
  refine lv_iconst (v := (0 : Int32)) hx hb dX8_greatestOf_6 (by decide) ?_
  refine lv_istore_n (lv' := [(3, .int (0 : Int32)), (2, .int r2), (0, .ref (ad 0)), (1, .int a1)]) hx hb dX8_greatestOf_7 rfl hl (by decide) rfl (fun ls hl => ?_)
  refine lv_iconst (v := (0 : Int32)) hx hb dX8_greatestOf_8 (by decide) ?_
  refine lv_istore (lv' := [(4, .int (0 : Int32)), (3, .int (0 : Int32)), (2, .int r2), (0, .ref (ad 0)), (1, .int a1)]) hx hb dX8_greatestOf_9 hl (by decide) rfl (fun ls hl => ?_)
  obtain ⟨n9, hw⟩ := hw
  exact mmk_greatestOf_11  C0   n9 r2 (0 : Int32) (0 : Int32) σ1 _ _ _ hw hW hS (lv_sub hl [3, 2, 1, 0] rfl)
theorem cd_X8_fail : yX8_fail.cls = RX8 ∧ yX8_fail.cls ≠ "java/lang/invoke/MethodHandle" ∧ yX8_fail.cls ≠ "java/lang/invoke/VarHandle" ∧ (parseMethodDescriptor yX8_fail.desc).map (fun d => d.parameters.length) = some 0 := by decide +kernel
/-! GleanersForGapsModel.fail()V -/
def mmw_fail   (σ : gg_S) (Q : gg_S → Prop) : Prop :=
    ((((gg_g σ 0 26) = 0) → (∀ σ1 : gg_S, σ1 = gg_s σ 0 26 (1 : Int32) → (∀ σ2 : gg_S, σ2 = gg_s σ1 0 27 (gg_g σ1 0 23) → Q σ2))) ∧ (¬ ((gg_g σ 0 26) = 0) → Q σ))
abbrev mmr_fail : Room := { frames := 0, cells := 0, slots := 0, locals := 0 }
set_option maxHeartbeats 4000000 in
set_option maxRecDepth 100000 in
theorem mmt_fail (l : Launch) {D : va_G} {cl : List vw_C} {E : ClassId × ClassId} {A : Nat → Prop} {ad : Nat → Nat}   (σ : gg_S) {Q : gg_S → Prop} (hw : mmw_fail σ Q) :
    Met l yX8_fail (ws_ yX8_fail cX8_fail 1 none) mmr_fail (va_Pc [.ref (ad 0)] (fun U => mm_W D cl E A ad σ U U.heap)) (va_Qv Q (fun u t => mm_W D cl E A ad u t t.heap) A) 0 0 A := by
  refine gg_entry (W0 := fun s H => mm_W D cl E A ad σ s H) (by decide) (Nat.le_of_ble_eq_true rfl) ?_
  intro p e s m args below meth c C0 hW ls hl
  have C0 : gg_C p s m args meth c RX8 cX8_fail 1 none := C0
  obtain ⟨hx, hb, hml, hown, hts, hr, hlocks⟩ := id C0
  have hl : lv_has ls 1 [(0, .ref (ad 0))] := hl
  have hS : va_S A s.heap s.heap [] := va_S.rf
  unfold mmw_fail at hw
  refine lv_aload_n hx hb dX8_fail_0 rfl (lv_at hl 0 rfl) ?_
  refine mm_geti hx hb hts hown hW 26 (by decide) q1297 dX8_fail_1 ?_
  refine lv_if_ne (tgt := 20) hx hb dX8_fail_4 (by decide) (fun c3 => ?_) (fun c3 => ?_)
  · have hw := hw.2 c3
    exact gg_vret (mm_mv D cl E A ad) C0 hW hS hw dX8_fail_20
  · have hw := hw.1 c3
    refine lv_aload_n hx hb dX8_fail_7 rfl (lv_at hl 0 rfl) ?_
    refine lv_iconst (v := (1 : Int32)) hx hb dX8_fail_8 (by decide) ?_
    refine mm_puti hx hb hts hown hW hS 26 (by decide) q1297 rfl rfl rfl dX8_fail_9 (fun H locs hW hS => ?_)
    obtain ⟨σ1, eσ1⟩ : ∃ z, z = gg_s σ 0 26 (1 : Int32) := ⟨_, rfl⟩
    rw [← eσ1] at hW
    have hw := hw σ1 eσ1
    refine lv_aload_n hx hb dX8_fail_12 rfl (lv_at hl 0 rfl) ?_
    refine lv_aload_n hx hb dX8_fail_13 rfl (lv_at hl 0 rfl) ?_
    refine mm_geti hx hb hts hown hW 23 (by decide) q1294 dX8_fail_14 ?_
    refine mm_puti hx hb hts hown hW hS 27 (by decide) q1298 rfl rfl rfl dX8_fail_17 (fun H locs hW hS => ?_)
    obtain ⟨σ2, eσ2⟩ : ∃ z, z = gg_s σ1 0 27 (gg_g σ1 0 23) := ⟨_, rfl⟩
    rw [← eσ2] at hW
    have hw := hw σ2 eσ2
    exact gg_vret (mm_mv D cl E A ad) C0 hW hS hw dX8_fail_20
theorem cd_X8_byteAt : yX8_byteAt.cls = RX8 ∧ yX8_byteAt.cls ≠ "java/lang/invoke/MethodHandle" ∧ yX8_byteAt.cls ≠ "java/lang/invoke/VarHandle" ∧ (parseMethodDescriptor yX8_byteAt.desc).map (fun d => d.parameters.length) = some 1 := by decide +kernel
/-! GleanersForGapsModel.byteAt(I)I -/
def mmw_byteAt  (a1 : Int32) (σ : gg_S) (Q : Int32 → gg_S → Prop) : Prop :=
    ((((gg_g σ 0 20) ≤ a1) → Q (-1 : Int32) σ) ∧ (¬ ((gg_g σ 0 20) ≤ a1) → vp_in ((gg_g σ 0 19) + a1) 960 ∧ Q (gg_g σ 1 ((gg_g σ 0 19) + a1).toNatClampNeg) σ))
abbrev mmr_byteAt : Room := { frames := 0, cells := 0, slots := 0, locals := 0 }
set_option maxHeartbeats 4000000 in
set_option maxRecDepth 100000 in
theorem mmt_byteAt (l : Launch) {D : va_G} {cl : List vw_C} {E : ClassId × ClassId} {A : Nat → Prop} {ad : Nat → Nat}  (a1 : Int32) (σ : gg_S) {Q : Int32 → gg_S → Prop} (hw : mmw_byteAt a1 σ Q) :
    Met l yX8_byteAt (ws_ yX8_byteAt cX8_byteAt 2 (some .int)) mmr_byteAt (va_Pc [.ref (ad 0), .int a1] (fun U => mm_W D cl E A ad σ U U.heap)) (va_Qi Q (fun u t => mm_W D cl E A ad u t t.heap) A) 0 0 A := by
  refine gg_entry (W0 := fun s H => mm_W D cl E A ad σ s H) (by decide) (Nat.le_of_ble_eq_true rfl) ?_
  intro p e s m args below meth c C0 hW ls hl
  have C0 : gg_C p s m args meth c RX8 cX8_byteAt 2 (some .int) := C0
  obtain ⟨hx, hb, hml, hown, hts, hr, hlocks⟩ := id C0
  have hl : lv_has ls 2 [(0, .ref (ad 0)), (1, .int a1)] := hl
  have hS : va_S A s.heap s.heap [] := va_S.rf
  unfold mmw_byteAt at hw
  refine lv_iload_n hx hb dX8_byteAt_0 rfl (lv_at hl 1 rfl) ?_
  refine lv_aload_n hx hb dX8_byteAt_1 rfl (lv_at hl 0 rfl) ?_
  refine mm_geti hx hb hts hown hW 20 (by decide) q1291 dX8_byteAt_2 ?_
  refine lv_icmp_ge (tgt := 22) hx hb dX8_byteAt_5 (by decide) (fun c1 => ?_) (fun c1 => ?_)
  · have hw := hw.1 c1
    refine lv_iconst (v := (-1 : Int32)) hx hb dX8_byteAt_22 (by decide) ?_
    exact gg_iret (mm_mv D cl E A ad) C0 hW hS hw dX8_byteAt_23
  · have hw := hw.2 c1
    refine lv_aload_n hx hb dX8_byteAt_8 rfl (lv_at hl 0 rfl) ?_
    refine mm_getr hx hb hts hown hW 1 1 (by decide) q1272 dX8_byteAt_9 ?_
    refine lv_aload_n hx hb dX8_byteAt_12 rfl (lv_at hl 0 rfl) ?_
    refine mm_geti hx hb hts hown hW 19 (by decide) q1290 dX8_byteAt_13 ?_
    refine lv_iload_n hx hb dX8_byteAt_16 rfl (lv_at hl 1 rfl) ?_
    refine lv_iadd hx hb dX8_byteAt_17 ?_
    obtain ⟨hin, hw⟩ := hw
    refine mm_ald hx hb hW 0 (by decide) hin dX8_byteAt_18 ?_
    refine lv_goto (tgt := 23) hx hb dX8_byteAt_19 (by decide) ?_
    exact gg_iret (mm_mv D cl E A ad) C0 hW hS hw dX8_byteAt_23
theorem cd_X8_isLetter : yX8_isLetter.cls = RX8 ∧ yX8_isLetter.cls ≠ "java/lang/invoke/MethodHandle" ∧ yX8_isLetter.cls ≠ "java/lang/invoke/VarHandle" ∧ (parseMethodDescriptor yX8_isLetter.desc).map (fun d => d.parameters.length) = some 2 := by decide +kernel
/-! GleanersForGapsModel.isLetter(II)Z -/
def mmw_isLetter  (a1 : Int32) (a2 : Int32) (σ : gg_S) (Q : Int32 → gg_S → Prop) : Prop :=
    ((((gg_g σ 0 21) ≤ ((gg_g σ 0 23) + a1)) → (((a2 = 0) → Q (1 : Int32) σ) ∧ (¬ (a2 = 0) → Q (0 : Int32) σ))) ∧ (¬ ((gg_g σ 0 21) ≤ ((gg_g σ 0 23) + a1)) → (mmw_byteAt ((gg_g σ 0 23) + a1) σ (fun r3 σ2 => (((r3 = a2) → Q (1 : Int32) σ2) ∧ (¬ (r3 = a2) → Q (0 : Int32) σ2))))))
abbrev mmr_isLetter : Room := { frames := 1, cells := 0, slots := 0, locals := 21 }
set_option maxHeartbeats 4000000 in
set_option maxRecDepth 100000 in
theorem mmt_isLetter (l : Launch) {D : va_G} {cl : List vw_C} {E : ClassId × ClassId} {A : Nat → Prop} {ad : Nat → Nat}  (a1 : Int32) (a2 : Int32) (σ : gg_S) {Q : Int32 → gg_S → Prop} (hw : mmw_isLetter a1 a2 σ Q) :
    Met l yX8_isLetter (ws_ yX8_isLetter cX8_isLetter 3 (some .boolean)) mmr_isLetter (va_Pc [.ref (ad 0), .int a1, .int a2] (fun U => mm_W D cl E A ad σ U U.heap)) (va_Qi (fun r u => (r = 0 ∨ r = 1) ∧ Q r u) (fun u t => mm_W D cl E A ad u t t.heap) A) 0 0 A := by
  refine gg_entry (W0 := fun s H => mm_W D cl E A ad σ s H) (by decide) (Nat.le_of_ble_eq_true rfl) ?_
  intro p e s m args below meth c C0 hW ls hl
  have C0 : gg_C p s m args meth c RX8 cX8_isLetter 3 (some .boolean) := C0
  obtain ⟨hx, hb, hml, hown, hts, hr, hlocks⟩ := id C0
  have hl : lv_has ls 3 [(0, .ref (ad 0)), (1, .int a1), (2, .int a2)] := hl
  have hS : va_S A s.heap s.heap [] := va_S.rf
  unfold mmw_isLetter at hw
  refine lv_aload_n hx hb dX8_isLetter_0 rfl (lv_at hl 0 rfl) ?_
  refine mm_geti hx hb hts hown hW 23 (by decide) q1294 dX8_isLetter_1 ?_
  refine lv_iload_n hx hb dX8_isLetter_4 rfl (lv_at hl 1 rfl) ?_
  refine lv_iadd hx hb dX8_isLetter_5 ?_
  refine lv_aload_n hx hb dX8_isLetter_6 rfl (lv_at hl 0 rfl) ?_
  refine mm_geti hx hb hts hown hW 21 (by decide) q1292 dX8_isLetter_7 ?_
  refine lv_icmp_ge (tgt := 35) hx hb dX8_isLetter_10 (by decide) (fun c5 => ?_) (fun c5 => ?_)
  · have hw := hw.1 c5
    refine lv_iload_n hx hb dX8_isLetter_35 rfl (lv_at hl 2 rfl) ?_
    refine lv_if_ne (tgt := 43) hx hb dX8_isLetter_36 (by decide) (fun c1 => ?_) (fun c1 => ?_)
    · have hw := hw.2 c1
      refine lv_iconst (v := (0 : Int32)) hx hb dX8_isLetter_43 (by decide) ?_
      exact gg_zret (mm_mv D cl E A ad) C0 hW hS (Or.inl rfl) hw dX8_isLetter_44
    · have hw := hw.1 c1
      refine lv_iconst (v := (1 : Int32)) hx hb dX8_isLetter_39 (by decide) ?_
      refine lv_goto (tgt := 44) hx hb dX8_isLetter_40 (by decide) ?_
      exact gg_zret (mm_mv D cl E A ad) C0 hW hS (Or.inr rfl) hw dX8_isLetter_44
  · have hw := hw.2 c5
    refine lv_aload_n hx hb dX8_isLetter_13 rfl (lv_at hl 0 rfl) ?_
    refine lv_aload_n hx hb dX8_isLetter_14 rfl (lv_at hl 0 rfl) ?_
    refine mm_geti hx hb hts hown hW 23 (by decide) q1294 dX8_isLetter_15 ?_
    refine lv_iload_n hx hb dX8_isLetter_18 rfl (lv_at hl 1 rfl) ?_
    refine lv_iadd hx hb dX8_isLetter_19 ?_
    refine mm_VI ⟨hx, hb, hml, hown, hts⟩ (mmt_byteAt l _ _ hw) (cwV 1 hts (lw_V q1466 q1468 qs66 q120 q1469) rfl rfl rfl cd_X8_byteAt ⟨Nat.le_of_ble_eq_true rfl, Nat.le_of_ble_eq_true rfl⟩) hW (mm_recv hW) hS rfl hl.1 rfl (Nat.le_of_ble_eq_true rfl) dX8_isLetter_20 (fun r3 σ2 H locs hw hW hS => ?_)
    refine lv_iload_n hx hb dX8_isLetter_23 rfl (lv_at hl 2 rfl) ?_
    refine lv_icmp_ne (tgt := 31) hx hb dX8_isLetter_24 (by decide) (fun c4 => ?_) (fun c4 => ?_)
    · have hw := hw.2 c4
      refine lv_iconst (v := (0 : Int32)) hx hb dX8_isLetter_31 (by decide) ?_
      refine lv_goto (tgt := 44) hx hb dX8_isLetter_32 (by decide) ?_
      exact gg_zret (mm_mv D cl E A ad) C0 hW hS (Or.inl rfl) hw dX8_isLetter_44
    · have hw := hw.1 c4
      refine lv_iconst (v := (1 : Int32)) hx hb dX8_isLetter_27 (by decide) ?_
      refine lv_goto (tgt := 44) hx hb dX8_isLetter_28 (by decide) ?_
      exact gg_zret (mm_mv D cl E A ad) C0 hW hS (Or.inr rfl) hw dX8_isLetter_44
theorem cd_X8_isWord : yX8_isWord.cls = RX8 ∧ yX8_isWord.cls ≠ "java/lang/invoke/MethodHandle" ∧ yX8_isWord.cls ≠ "java/lang/invoke/VarHandle" ∧ (parseMethodDescriptor yX8_isWord.desc).map (fun d => d.parameters.length) = some 8 := by decide +kernel
/-! GleanersForGapsModel.isWord(IIIIIIII)Z -/
def mmw_isWord  (a1 : Int32) (a2 : Int32) (a3 : Int32) (a4 : Int32) (a5 : Int32) (a6 : Int32) (a7 : Int32) (a8 : Int32) (σ : gg_S) (Q : Int32 → gg_S → Prop) : Prop :=
    ((((gg_g σ 0 26) = 0) → ((((gg_g σ 0 22) = (1 : Int32)) → (((((gg_g σ 0 23) + (8 : Int32)) < (gg_g σ 0 21)) → Q (0 : Int32) σ) ∧ (¬ (((gg_g σ 0 23) + (8 : Int32)) < (gg_g σ 0 21)) → (mmw_isLetter (0 : Int32) a1 σ (fun r2 σ1 => (((r2 = 0) → Q (0 : Int32) σ1) ∧ (¬ (r2 = 0) → (mmw_isLetter (1 : Int32) a2 σ1 (fun r4 σ3 => (((r4 = 0) → Q (0 : Int32) σ3) ∧ (¬ (r4 = 0) → (mmw_isLetter (2 : Int32) a3 σ3 (fun r6 σ5 => (((r6 = 0) → Q (0 : Int32) σ5) ∧ (¬ (r6 = 0) → (mmw_isLetter (3 : Int32) a4 σ5 (fun r8 σ7 => (((r8 = 0) → Q (0 : Int32) σ7) ∧ (¬ (r8 = 0) → (mmw_isLetter (4 : Int32) a5 σ7 (fun r10 σ9 => (((r10 = 0) → Q (0 : Int32) σ9) ∧ (¬ (r10 = 0) → (mmw_isLetter (5 : Int32) a6 σ9 (fun r12 σ11 => (((r12 = 0) → Q (0 : Int32) σ11) ∧ (¬ (r12 = 0) → (mmw_isLetter (6 : Int32) a7 σ11 (fun r14 σ13 => (((r14 = 0) → Q (0 : Int32) σ13) ∧ (¬ (r14 = 0) → (mmw_isLetter (7 : Int32) a8 σ13 (fun r16 σ15 => (((r16 = 0) → Q (0 : Int32) σ15) ∧ (¬ (r16 = 0) → Q (1 : Int32) σ15))))))))))))))))))))))))))))))))))) ∧ (¬ ((gg_g σ 0 22) = (1 : Int32)) → Q (0 : Int32) σ))) ∧ (¬ ((gg_g σ 0 26) = 0) → Q (0 : Int32) σ))
abbrev mmr_isWord : Room := { frames := 2, cells := 0, slots := 0, locals := 43 }
set_option maxHeartbeats 4000000 in
set_option maxRecDepth 100000 in
theorem mmt_isWord (l : Launch) {D : va_G} {cl : List vw_C} {E : ClassId × ClassId} {A : Nat → Prop} {ad : Nat → Nat}  (a1 : Int32) (a2 : Int32) (a3 : Int32) (a4 : Int32) (a5 : Int32) (a6 : Int32) (a7 : Int32) (a8 : Int32) (σ : gg_S) {Q : Int32 → gg_S → Prop} (hw : mmw_isWord a1 a2 a3 a4 a5 a6 a7 a8 σ Q) :
    Met l yX8_isWord (ws_ yX8_isWord cX8_isWord 9 (some .boolean)) mmr_isWord (va_Pc [.ref (ad 0), .int a1, .int a2, .int a3, .int a4, .int a5, .int a6, .int a7, .int a8] (fun U => mm_W D cl E A ad σ U U.heap)) (va_Qi (fun r u => (r = 0 ∨ r = 1) ∧ Q r u) (fun u t => mm_W D cl E A ad u t t.heap) A) 0 0 A := by
  refine gg_entry (W0 := fun s H => mm_W D cl E A ad σ s H) (by decide) (Nat.le_of_ble_eq_true rfl) ?_
  intro p e s m args below meth c C0 hW ls hl
  have C0 : gg_C p s m args meth c RX8 cX8_isWord 9 (some .boolean) := C0
  obtain ⟨hx, hb, hml, hown, hts, hr, hlocks⟩ := id C0
  have hl : lv_has ls 9 [(0, .ref (ad 0)), (1, .int a1), (2, .int a2), (3, .int a3), (4, .int a4), (5, .int a5), (6, .int a6), (7, .int a7), (8, .int a8)] := hl
  have hS : va_S A s.heap s.heap [] := va_S.rf
  unfold mmw_isWord at hw
  refine lv_aload_n hx hb dX8_isWord_0 rfl (lv_at hl 0 rfl) ?_
  refine mm_geti hx hb hts hown hW 26 (by decide) q1297 dX8_isWord_1 ?_
  refine lv_if_ne (tgt := 112) hx hb dX8_isWord_4 (by decide) (fun c27 => ?_) (fun c27 => ?_)
  · have hw := hw.2 c27
    refine lv_iconst (v := (0 : Int32)) hx hb dX8_isWord_112 (by decide) ?_
    exact gg_zret (mm_mv D cl E A ad) C0 hW hS (Or.inl rfl) hw dX8_isWord_113
  · have hw := hw.1 c27
    refine lv_aload_n hx hb dX8_isWord_7 rfl (lv_at hl 0 rfl) ?_
    refine mm_geti hx hb hts hown hW 22 (by decide) q1293 dX8_isWord_8 ?_
    refine lv_iconst (v := (1 : Int32)) hx hb dX8_isWord_11 (by decide) ?_
    refine lv_icmp_ne (tgt := 112) hx hb dX8_isWord_12 (by decide) (fun c26 => ?_) (fun c26 => ?_)
    · have hw := hw.2 c26
      refine lv_iconst (v := (0 : Int32)) hx hb dX8_isWord_112 (by decide) ?_
      exact gg_zret (mm_mv D cl E A ad) C0 hW hS (Or.inl rfl) hw dX8_isWord_113
    · have hw := hw.1 c26
      refine lv_aload_n hx hb dX8_isWord_15 rfl (lv_at hl 0 rfl) ?_
      refine mm_geti hx hb hts hown hW 21 (by decide) q1292 dX8_isWord_16 ?_
      refine lv_aload_n hx hb dX8_isWord_19 rfl (lv_at hl 0 rfl) ?_
      refine mm_geti hx hb hts hown hW 23 (by decide) q1294 dX8_isWord_20 ?_
      refine lv_bipush (v := (8 : Int32)) hx hb dX8_isWord_23 (by decide) ?_
      refine lv_iadd hx hb dX8_isWord_25 ?_
      refine lv_icmp_gt (tgt := 112) hx hb dX8_isWord_26 (by decide) (fun c25 => ?_) (fun c25 => ?_)
      · have hw := hw.1 c25
        refine lv_iconst (v := (0 : Int32)) hx hb dX8_isWord_112 (by decide) ?_
        exact gg_zret (mm_mv D cl E A ad) C0 hW hS (Or.inl rfl) hw dX8_isWord_113
      · have hw := hw.2 c25
        refine lv_aload_n hx hb dX8_isWord_29 rfl (lv_at hl 0 rfl) ?_
        refine lv_iconst (v := (0 : Int32)) hx hb dX8_isWord_30 (by decide) ?_
        refine lv_iload_n hx hb dX8_isWord_31 rfl (lv_at hl 1 rfl) ?_
        refine mm_VI ⟨hx, hb, hml, hown, hts⟩ (mmt_isLetter l _ _ _ hw) (cwV 2 hts (lw_V q1478 q1480 qs68 q120 q1481) rfl rfl rfl cd_X8_isLetter ⟨Nat.le_of_ble_eq_true rfl, Nat.le_of_ble_eq_true rfl⟩) hW (mm_recv hW) hS rfl hl.1 rfl (Nat.le_of_ble_eq_true rfl) dX8_isWord_32 (fun r2 σ1 H locs hw hW hS => ?_)
        obtain ⟨hz_r2, hw⟩ := hw
        refine lv_if_eq (tgt := 112) hx hb dX8_isWord_35 (by decide) (fun c24 => ?_) (fun c24 => ?_)
        · have hw := hw.1 c24
          refine lv_iconst (v := (0 : Int32)) hx hb dX8_isWord_112 (by decide) ?_
          exact gg_zret (mm_mv D cl E A ad) C0 hW hS (Or.inl rfl) hw dX8_isWord_113
        · have hw := hw.2 c24
          refine lv_aload_n hx hb dX8_isWord_38 rfl (lv_at hl 0 rfl) ?_
          refine lv_iconst (v := (1 : Int32)) hx hb dX8_isWord_39 (by decide) ?_
          refine lv_iload_n hx hb dX8_isWord_40 rfl (lv_at hl 2 rfl) ?_
          refine mm_VI ⟨hx, hb, hml, hown, hts⟩ (mmt_isLetter l _ _ _ hw) (cwV 2 hts (lw_V q1478 q1480 qs68 q120 q1481) rfl rfl rfl cd_X8_isLetter ⟨Nat.le_of_ble_eq_true rfl, Nat.le_of_ble_eq_true rfl⟩) hW (mm_recv hW) hS rfl hl.1 rfl (Nat.le_of_ble_eq_true rfl) dX8_isWord_41 (fun r4 σ3 H locs hw hW hS => ?_)
          obtain ⟨hz_r4, hw⟩ := hw
          refine lv_if_eq (tgt := 112) hx hb dX8_isWord_44 (by decide) (fun c23 => ?_) (fun c23 => ?_)
          · have hw := hw.1 c23
            refine lv_iconst (v := (0 : Int32)) hx hb dX8_isWord_112 (by decide) ?_
            exact gg_zret (mm_mv D cl E A ad) C0 hW hS (Or.inl rfl) hw dX8_isWord_113
          · have hw := hw.2 c23
            refine lv_aload_n hx hb dX8_isWord_47 rfl (lv_at hl 0 rfl) ?_
            refine lv_iconst (v := (2 : Int32)) hx hb dX8_isWord_48 (by decide) ?_
            refine lv_iload_n hx hb dX8_isWord_49 rfl (lv_at hl 3 rfl) ?_
            refine mm_VI ⟨hx, hb, hml, hown, hts⟩ (mmt_isLetter l _ _ _ hw) (cwV 2 hts (lw_V q1478 q1480 qs68 q120 q1481) rfl rfl rfl cd_X8_isLetter ⟨Nat.le_of_ble_eq_true rfl, Nat.le_of_ble_eq_true rfl⟩) hW (mm_recv hW) hS rfl hl.1 rfl (Nat.le_of_ble_eq_true rfl) dX8_isWord_50 (fun r6 σ5 H locs hw hW hS => ?_)
            obtain ⟨hz_r6, hw⟩ := hw
            refine lv_if_eq (tgt := 112) hx hb dX8_isWord_53 (by decide) (fun c22 => ?_) (fun c22 => ?_)
            · have hw := hw.1 c22
              refine lv_iconst (v := (0 : Int32)) hx hb dX8_isWord_112 (by decide) ?_
              exact gg_zret (mm_mv D cl E A ad) C0 hW hS (Or.inl rfl) hw dX8_isWord_113
            · have hw := hw.2 c22
              refine lv_aload_n hx hb dX8_isWord_56 rfl (lv_at hl 0 rfl) ?_
              refine lv_iconst (v := (3 : Int32)) hx hb dX8_isWord_57 (by decide) ?_
              refine lv_iload hx hb dX8_isWord_58 (lv_at hl 4 rfl) ?_
              refine mm_VI ⟨hx, hb, hml, hown, hts⟩ (mmt_isLetter l _ _ _ hw) (cwV 2 hts (lw_V q1478 q1480 qs68 q120 q1481) rfl rfl rfl cd_X8_isLetter ⟨Nat.le_of_ble_eq_true rfl, Nat.le_of_ble_eq_true rfl⟩) hW (mm_recv hW) hS rfl hl.1 rfl (Nat.le_of_ble_eq_true rfl) dX8_isWord_60 (fun r8 σ7 H locs hw hW hS => ?_)
              obtain ⟨hz_r8, hw⟩ := hw
              refine lv_if_eq (tgt := 112) hx hb dX8_isWord_63 (by decide) (fun c21 => ?_) (fun c21 => ?_)
              · have hw := hw.1 c21
                refine lv_iconst (v := (0 : Int32)) hx hb dX8_isWord_112 (by decide) ?_
                exact gg_zret (mm_mv D cl E A ad) C0 hW hS (Or.inl rfl) hw dX8_isWord_113
              · have hw := hw.2 c21
                refine lv_aload_n hx hb dX8_isWord_66 rfl (lv_at hl 0 rfl) ?_
                refine lv_iconst (v := (4 : Int32)) hx hb dX8_isWord_67 (by decide) ?_
                refine lv_iload hx hb dX8_isWord_68 (lv_at hl 5 rfl) ?_
                refine mm_VI ⟨hx, hb, hml, hown, hts⟩ (mmt_isLetter l _ _ _ hw) (cwV 2 hts (lw_V q1478 q1480 qs68 q120 q1481) rfl rfl rfl cd_X8_isLetter ⟨Nat.le_of_ble_eq_true rfl, Nat.le_of_ble_eq_true rfl⟩) hW (mm_recv hW) hS rfl hl.1 rfl (Nat.le_of_ble_eq_true rfl) dX8_isWord_70 (fun r10 σ9 H locs hw hW hS => ?_)
                obtain ⟨hz_r10, hw⟩ := hw
                refine lv_if_eq (tgt := 112) hx hb dX8_isWord_73 (by decide) (fun c20 => ?_) (fun c20 => ?_)
                · have hw := hw.1 c20
                  refine lv_iconst (v := (0 : Int32)) hx hb dX8_isWord_112 (by decide) ?_
                  exact gg_zret (mm_mv D cl E A ad) C0 hW hS (Or.inl rfl) hw dX8_isWord_113
                · have hw := hw.2 c20
                  refine lv_aload_n hx hb dX8_isWord_76 rfl (lv_at hl 0 rfl) ?_
                  refine lv_iconst (v := (5 : Int32)) hx hb dX8_isWord_77 (by decide) ?_
                  refine lv_iload hx hb dX8_isWord_78 (lv_at hl 6 rfl) ?_
                  refine mm_VI ⟨hx, hb, hml, hown, hts⟩ (mmt_isLetter l _ _ _ hw) (cwV 2 hts (lw_V q1478 q1480 qs68 q120 q1481) rfl rfl rfl cd_X8_isLetter ⟨Nat.le_of_ble_eq_true rfl, Nat.le_of_ble_eq_true rfl⟩) hW (mm_recv hW) hS rfl hl.1 rfl (Nat.le_of_ble_eq_true rfl) dX8_isWord_80 (fun r12 σ11 H locs hw hW hS => ?_)
                  obtain ⟨hz_r12, hw⟩ := hw
                  refine lv_if_eq (tgt := 112) hx hb dX8_isWord_83 (by decide) (fun c19 => ?_) (fun c19 => ?_)
                  · have hw := hw.1 c19
                    refine lv_iconst (v := (0 : Int32)) hx hb dX8_isWord_112 (by decide) ?_
                    exact gg_zret (mm_mv D cl E A ad) C0 hW hS (Or.inl rfl) hw dX8_isWord_113
                  · have hw := hw.2 c19
                    refine lv_aload_n hx hb dX8_isWord_86 rfl (lv_at hl 0 rfl) ?_
                    refine lv_bipush (v := (6 : Int32)) hx hb dX8_isWord_87 (by decide) ?_
                    refine lv_iload hx hb dX8_isWord_89 (lv_at hl 7 rfl) ?_
                    refine mm_VI ⟨hx, hb, hml, hown, hts⟩ (mmt_isLetter l _ _ _ hw) (cwV 2 hts (lw_V q1478 q1480 qs68 q120 q1481) rfl rfl rfl cd_X8_isLetter ⟨Nat.le_of_ble_eq_true rfl, Nat.le_of_ble_eq_true rfl⟩) hW (mm_recv hW) hS rfl hl.1 rfl (Nat.le_of_ble_eq_true rfl) dX8_isWord_91 (fun r14 σ13 H locs hw hW hS => ?_)
                    obtain ⟨hz_r14, hw⟩ := hw
                    refine lv_if_eq (tgt := 112) hx hb dX8_isWord_94 (by decide) (fun c18 => ?_) (fun c18 => ?_)
                    · have hw := hw.1 c18
                      refine lv_iconst (v := (0 : Int32)) hx hb dX8_isWord_112 (by decide) ?_
                      exact gg_zret (mm_mv D cl E A ad) C0 hW hS (Or.inl rfl) hw dX8_isWord_113
                    · have hw := hw.2 c18
                      refine lv_aload_n hx hb dX8_isWord_97 rfl (lv_at hl 0 rfl) ?_
                      refine lv_bipush (v := (7 : Int32)) hx hb dX8_isWord_98 (by decide) ?_
                      refine lv_iload hx hb dX8_isWord_100 (lv_at hl 8 rfl) ?_
                      refine mm_VI ⟨hx, hb, hml, hown, hts⟩ (mmt_isLetter l _ _ _ hw) (cwV 2 hts (lw_V q1478 q1480 qs68 q120 q1481) rfl rfl rfl cd_X8_isLetter ⟨Nat.le_of_ble_eq_true rfl, Nat.le_of_ble_eq_true rfl⟩) hW (mm_recv hW) hS rfl hl.1 rfl (Nat.le_of_ble_eq_true rfl) dX8_isWord_102 (fun r16 σ15 H locs hw hW hS => ?_)
                      obtain ⟨hz_r16, hw⟩ := hw
                      refine lv_if_eq (tgt := 112) hx hb dX8_isWord_105 (by decide) (fun c17 => ?_) (fun c17 => ?_)
                      · have hw := hw.1 c17
                        refine lv_iconst (v := (0 : Int32)) hx hb dX8_isWord_112 (by decide) ?_
                        exact gg_zret (mm_mv D cl E A ad) C0 hW hS (Or.inl rfl) hw dX8_isWord_113
                      · have hw := hw.2 c17
                        refine lv_iconst (v := (1 : Int32)) hx hb dX8_isWord_108 (by decide) ?_
                        refine lv_goto (tgt := 113) hx hb dX8_isWord_109 (by decide) ?_
                        exact gg_zret (mm_mv D cl E A ad) C0 hW hS (Or.inr rfl) hw dX8_isWord_113
theorem cd_X8_next : yX8_next.cls = RX8 ∧ yX8_next.cls ≠ "java/lang/invoke/MethodHandle" ∧ yX8_next.cls ≠ "java/lang/invoke/VarHandle" ∧ (parseMethodDescriptor yX8_next.desc).map (fun d => d.parameters.length) = some 0 := by decide +kernel
/-! GleanersForGapsModel.next()V -/
def mmw_next_26  (Q : gg_S → Prop) (K0 : gg_S → Prop)  (σ : gg_S) : Prop :=
    (∀ σ3 : gg_S, σ3 = gg_s σ 0 21 ((gg_g σ 0 21) + (1 : Int32)) → K0 σ3)
def mmw_next_300  (Q : gg_S → Prop)  (x1 : Int32) (σ : gg_S) : Prop :=
    (∀ σ14 : gg_S, σ14 = gg_s σ 0 22 (3 : Int32) → (∀ σ15 : gg_S, σ15 = gg_w σ14 ((x1).toInt64) → (∀ σ16 : gg_S, σ16 = gg_s σ15 0 21 ((gg_g σ15 0 21) + (1 : Int32)) → Q σ16)))
def mmw_next_246  (Q : gg_S → Prop)  (s1 : Int32) (σ : gg_S) : Prop :=
    (∀ σ31 : gg_S, σ31 = gg_s σ 0 22 s1 → Q σ31)
def mmw_next_216  (Q : gg_S → Prop) (K160 : Int32 → gg_S → Prop) (x2 : Int32) (s1 : Int64) (σ : gg_S) : Prop :=
    (∀ σ33 : gg_S, σ33 = gg_w σ s1 → (∀ σ34 : gg_S, σ34 = gg_s σ33 0 21 ((gg_g σ33 0 21) + (1 : Int32)) → K160 (x2 + (1 : Int32)) σ34))
def mmw_next_160  (Q : gg_S → Prop)  : Nat → Int32 → gg_S → Prop
  | 0, _, _ => False
  | n + 1, x2, σ =>
    (mmw_byteAt (gg_g σ 0 21) σ (fun r28 σ27 => (mmw_in ((r28).toInt64) (48 : Int64) (57 : Int64) σ27 (fun r30 σ29 => (((r30 = 0) → (((x2 ≤ (4 : Int32)) → mmw_next_246 Q (2 : Int32) σ29) ∧ (¬ (x2 ≤ (4 : Int32)) → mmw_next_246 Q (4 : Int32) σ29))) ∧ (¬ (r30 = 0) → ((((4 : Int32) ≤ x2) → mmw_next_216 Q (fun y0 τ => mmw_next_160 Q n y0 τ) x2 σ29.2 σ29) ∧ (¬ ((4 : Int32) ≤ x2) → (mmw_byteAt (gg_g σ29 0 21) σ29 (fun r36 σ35 => mmw_next_216 Q (fun y0 τ => mmw_next_160 Q n y0 τ) x2 ((((10 : Int64) * σ29.2) + (r36).toInt64) - (48 : Int64)) σ35))))))))))
def mmw_next_100  (Q : gg_S → Prop)  : Nat → gg_S → Prop
  | 0, _ => False
  | n + 1, σ =>
    (mmw_byteAt (gg_g σ 0 21) σ (fun r42 σ41 => (mmw_in ((r42).toInt64) (97 : Int64) (122 : Int64) σ41 (fun r44 σ43 => (((r44 = 0) → Q σ43) ∧ (¬ (r44 = 0) → (∀ σ45 : gg_S, σ45 = gg_s σ43 0 21 ((gg_g σ43 0 21) + (1 : Int32)) → mmw_next_100 Q n σ45)))))))
def mmw_next_0  (Q : gg_S → Prop)  : Nat → gg_S → Prop
  | 0, _ => False
  | n + 1, σ =>
    (mmw_byteAt (gg_g σ 0 21) σ (fun r2 σ1 => (((r2 = (32 : Int32)) → mmw_next_26 Q (fun τ => mmw_next_0 Q n τ) σ1) ∧ (¬ (r2 = (32 : Int32)) → (mmw_byteAt (gg_g σ1 0 21) σ1 (fun r5 σ4 => (((r5 = (10 : Int32)) → mmw_next_26 Q (fun τ => mmw_next_0 Q n τ) σ4) ∧ (¬ (r5 = (10 : Int32)) → (∀ σ6 : gg_S, σ6 = gg_s σ4 0 23 (gg_g σ4 0 21) → (mmw_byteAt (gg_g σ6 0 21) σ6 (fun r8 σ7 => (∀ σ9 : gg_S, σ9 = gg_s σ7 0 22 (4 : Int32) → (((0 ≤ r8) → (mmw_in ((r8).toInt64) (97 : Int64) (122 : Int64) σ9 (fun r11 σ10 => (((r11 = 0) → (mmw_in ((r8).toInt64) (48 : Int64) (57 : Int64) σ10 (fun r13 σ12 => (((r13 = 0) → (((r8 = (40 : Int32)) → mmw_next_300 Q r8 σ12) ∧ (¬ (r8 = (40 : Int32)) → (((r8 = (41 : Int32)) → mmw_next_300 Q r8 σ12) ∧ (¬ (r8 = (41 : Int32)) → (((r8 = (59 : Int32)) → mmw_next_300 Q r8 σ12) ∧ (¬ (r8 = (59 : Int32)) → (((r8 = (43 : Int32)) → mmw_next_300 Q r8 σ12) ∧ (¬ (r8 = (43 : Int32)) → (((r8 = (45 : Int32)) → mmw_next_300 Q r8 σ12) ∧ (¬ (r8 = (45 : Int32)) → (((r8 = (42 : Int32)) → mmw_next_300 Q r8 σ12) ∧ (¬ (r8 = (42 : Int32)) → (((r8 = (60 : Int32)) → mmw_next_300 Q r8 σ12) ∧ (¬ (r8 = (60 : Int32)) → (((r8 = (61 : Int32)) → mmw_next_300 Q r8 σ12) ∧ (¬ (r8 = (61 : Int32)) → Q σ12))))))))))))))))) ∧ (¬ (r13 = 0) → (∀ σ25 : gg_S, σ25 = gg_s σ12 0 22 (2 : Int32) → (∀ σ26 : gg_S, σ26 = gg_w σ25 (0 : Int64) → ∃ k9, mmw_next_160 Q k9 (0 : Int32) σ26))))))) ∧ (¬ (r11 = 0) → (∀ σ40 : gg_S, σ40 = gg_s σ10 0 22 (1 : Int32) → ∃ k9, mmw_next_100 Q k9 σ40)))))) ∧ (¬ (0 ≤ r8) → (∀ σ48 : gg_S, σ48 = gg_s σ9 0 22 (0 : Int32) → (∀ σ49 : gg_S, σ49 = gg_s σ48 0 23 (gg_g σ48 0 20) → Q σ49))))))))))))))))
def mmw_next   (σ : gg_S) (Q : gg_S → Prop) : Prop :=
    ∃ k9, mmw_next_0 Q k9 σ
abbrev mmr_next : Room := { frames := 1, cells := 0, slots := 0, locals := 25 }
set_option maxHeartbeats 4000000 in
set_option maxRecDepth 100000 in
theorem mmk_next_26 {p : Program} {l : Launch} {e : Env} {s : State} {m : MethodId} {args : Array Value} {below : List Frame} {meth : Method} {c : Code} {D : va_G} {cl : List vw_C} {E : ClassId × ClassId} {A : Nat → Prop} {ad : Nat → Nat} {Q : gg_S → Prop} {K0 : gg_S → Prop}  (C0 : gg_C p s m args meth c RX8 cX8_next 3 none) (hK0 : ∀  (σ : gg_S) (H : Heap) (locs : List Loc) (ls : Array Slot), K0 σ → mm_W D cl E A ad σ s H → va_S A s.heap H locs → lv_has ls 3 [(0, .ref (ad 0))] → W p l e mmr_next s m args below meth c H locs 0 0 (MQ below (va_Qv Q (fun u t => mm_W D cl E A ad u t t.heap) A) args s 0 0 A) (F0 m 0 ls [])) :
    ∀  (σ : gg_S) (H : Heap) (locs : List Loc) (ls : Array Slot), mmw_next_26 Q K0 σ → mm_W D cl E A ad σ s H → va_S A s.heap H locs → lv_has ls 3 [(0, .ref (ad 0))] → W p l e mmr_next s m args below meth c H locs 0 0 (MQ below (va_Qv Q (fun u t => mm_W D cl E A ad u t t.heap) A) args s 0 0 A) (F0 m 26 ls []) := by
  obtain ⟨hx, hb, hml, hown, hts, hr, hlocks⟩ := id C0
  intro σ H locs ls hw hW hS hl
  unfold mmw_next_26 at hw
  refine lv_aload_n hx hb dX8_next_26 rfl (lv_at hl 0 rfl) ?_
  refine lv_dup hx hb dX8_next_27 rfl ?_
  refine mm_geti hx hb hts hown hW 21 (by decide) q1292 dX8_next_28 ?_
  refine lv_iconst (v := (1 : Int32)) hx hb dX8_next_31 (by decide) ?_
  refine lv_iadd hx hb dX8_next_32 ?_
  refine mm_puti hx hb hts hown hW hS 21 (by decide) q1292 rfl rfl rfl dX8_next_33 (fun H locs hW hS => ?_)
  obtain ⟨σ3, eσ3⟩ : ∃ z, z = gg_s σ 0 21 ((gg_g σ 0 21) + (1 : Int32)) := ⟨_, rfl⟩
  rw [← eσ3] at hW
  have hw := hw σ3 eσ3
  refine lv_goto (tgt := 0) hx hb dX8_next_36 (by decide) ?_
  exact hK0 σ3 _ _ _ hw hW hS (hl)
set_option maxHeartbeats 4000000 in
set_option maxRecDepth 100000 in
theorem mmk_next_300 {p : Program} {l : Launch} {e : Env} {s : State} {m : MethodId} {args : Array Value} {below : List Frame} {meth : Method} {c : Code} {D : va_G} {cl : List vw_C} {E : ClassId × ClassId} {A : Nat → Prop} {ad : Nat → Nat} {Q : gg_S → Prop}   (C0 : gg_C p s m args meth c RX8 cX8_next 3 none)  :
    ∀ (x1 : Int32) (σ : gg_S) (H : Heap) (locs : List Loc) (ls : Array Slot), mmw_next_300 Q x1 σ → mm_W D cl E A ad σ s H → va_S A s.heap H locs → lv_has ls 3 [(0, .ref (ad 0)), (1, .int x1)] → W p l e mmr_next s m args below meth c H locs 0 0 (MQ below (va_Qv Q (fun u t => mm_W D cl E A ad u t t.heap) A) args s 0 0 A) (F0 m 300 ls []) := by
  obtain ⟨hx, hb, hml, hown, hts, hr, hlocks⟩ := id C0
  intro x1 σ H locs ls hw hW hS hl
  unfold mmw_next_300 at hw
  refine lv_aload_n hx hb dX8_next_300 rfl (lv_at hl 0 rfl) ?_
  refine lv_iconst (v := (3 : Int32)) hx hb dX8_next_301 (by decide) ?_
  refine mm_puti hx hb hts hown hW hS 22 (by decide) q1293 rfl rfl rfl dX8_next_302 (fun H locs hW hS => ?_)
  obtain ⟨σ14, eσ14⟩ : ∃ z, z = gg_s σ 0 22 (3 : Int32) := ⟨_, rfl⟩
  rw [← eσ14] at hW
  have hw := hw σ14 eσ14
  refine lv_aload_n hx hb dX8_next_305 rfl (lv_at hl 0 rfl) ?_
  refine lv_iload_n hx hb dX8_next_306 rfl (lv_at hl 1 rfl) ?_
  refine lv_i2l (v := (x1).toInt64) hx hb dX8_next_307 rfl ?_
  refine mm_putw hx hb hts hown hW hS q1295 dX8_next_308 (fun H locs hW hS => ?_)
  obtain ⟨σ15, eσ15⟩ : ∃ z, z = gg_w σ14 ((x1).toInt64) := ⟨_, rfl⟩
  rw [← eσ15] at hW
  have hw := hw σ15 eσ15
  refine lv_aload_n hx hb dX8_next_311 rfl (lv_at hl 0 rfl) ?_
  refine lv_dup hx hb dX8_next_312 rfl ?_
  refine mm_geti hx hb hts hown hW 21 (by decide) q1292 dX8_next_313 ?_
  refine lv_iconst (v := (1 : Int32)) hx hb dX8_next_316 (by decide) ?_
  refine lv_iadd hx hb dX8_next_317 ?_
  refine mm_puti hx hb hts hown hW hS 21 (by decide) q1292 rfl rfl rfl dX8_next_318 (fun H locs hW hS => ?_)
  obtain ⟨σ16, eσ16⟩ : ∃ z, z = gg_s σ15 0 21 ((gg_g σ15 0 21) + (1 : Int32)) := ⟨_, rfl⟩
  rw [← eσ16] at hW
  have hw := hw σ16 eσ16
  exact gg_vret (mm_mv D cl E A ad) C0 hW hS hw dX8_next_321
set_option maxHeartbeats 4000000 in
set_option maxRecDepth 100000 in
theorem mmk_next_246 {p : Program} {l : Launch} {e : Env} {s : State} {m : MethodId} {args : Array Value} {below : List Frame} {meth : Method} {c : Code} {D : va_G} {cl : List vw_C} {E : ClassId × ClassId} {A : Nat → Prop} {ad : Nat → Nat} {Q : gg_S → Prop}   (C0 : gg_C p s m args meth c RX8 cX8_next 3 none)  :
    ∀ (s1 : Int32) (σ : gg_S) (H : Heap) (locs : List Loc) (ls : Array Slot), mmw_next_246 Q s1 σ → mm_W D cl E A ad σ s H → va_S A s.heap H locs → lv_has ls 3 [(0, .ref (ad 0))] → W p l e mmr_next s m args below meth c H locs 0 0 (MQ below (va_Qv Q (fun u t => mm_W D cl E A ad u t t.heap) A) args s 0 0 A) (F0 m 246 ls [.int s1, .ref (ad 0)]) := by
  obtain ⟨hx, hb, hml, hown, hts, hr, hlocks⟩ := id C0
  intro s1 σ H locs ls hw hW hS hl
  unfold mmw_next_246 at hw
  refine mm_puti hx hb hts hown hW hS 22 (by decide) q1293 rfl rfl rfl dX8_next_246 (fun H locs hW hS => ?_)
  obtain ⟨σ31, eσ31⟩ : ∃ z, z = gg_s σ 0 22 s1 := ⟨_, rfl⟩
  rw [← eσ31] at hW
  have hw := hw σ31 eσ31
  refine lv_goto (tgt := 321) hx hb dX8_next_249 (by decide) ?_
  exact gg_vret (mm_mv D cl E A ad) C0 hW hS hw dX8_next_321
set_option maxHeartbeats 4000000 in
set_option maxRecDepth 100000 in
theorem mmk_next_216 {p : Program} {l : Launch} {e : Env} {s : State} {m : MethodId} {args : Array Value} {below : List Frame} {meth : Method} {c : Code} {D : va_G} {cl : List vw_C} {E : ClassId × ClassId} {A : Nat → Prop} {ad : Nat → Nat} {Q : gg_S → Prop} {K160 : Int32 → gg_S → Prop}  (C0 : gg_C p s m args meth c RX8 cX8_next 3 none) (hK160 : ∀ (x2 : Int32) (σ : gg_S) (H : Heap) (locs : List Loc) (ls : Array Slot), K160 x2 σ → mm_W D cl E A ad σ s H → va_S A s.heap H locs → lv_has ls 3 [(0, .ref (ad 0)), (2, .int x2)] → W p l e mmr_next s m args below meth c H locs 0 0 (MQ below (va_Qv Q (fun u t => mm_W D cl E A ad u t t.heap) A) args s 0 0 A) (F0 m 160 ls [])) :
    ∀ (x2 : Int32) (s1 : Int64) (σ : gg_S) (H : Heap) (locs : List Loc) (ls : Array Slot), mmw_next_216 Q K160 x2 s1 σ → mm_W D cl E A ad σ s H → va_S A s.heap H locs → lv_has ls 3 [(0, .ref (ad 0)), (2, .int x2)] → W p l e mmr_next s m args below meth c H locs 0 0 (MQ below (va_Qv Q (fun u t => mm_W D cl E A ad u t t.heap) A) args s 0 0 A) (F0 m 216 ls [.long s1, .ref (ad 0)]) := by
  obtain ⟨hx, hb, hml, hown, hts, hr, hlocks⟩ := id C0
  intro x2 s1 σ H locs ls hw hW hS hl
  unfold mmw_next_216 at hw
  refine mm_putw hx hb hts hown hW hS q1295 dX8_next_216 (fun H locs hW hS => ?_)
  obtain ⟨σ33, eσ33⟩ : ∃ z, z = gg_w σ s1 := ⟨_, rfl⟩
  rw [← eσ33] at hW
  have hw := hw σ33 eσ33
  refine lv_iinc (v := (x2 + (1 : Int32))) (lv' := [(2, .int (x2 + (1 : Int32))), (0, .ref (ad 0))]) hx hb dX8_next_219 hl (k := 1) rfl rfl (by decide) rfl (fun ls hl => ?_)
  refine lv_aload_n hx hb dX8_next_222 rfl (lv_at hl 1 rfl) ?_
  refine lv_dup hx hb dX8_next_223 rfl ?_
  refine mm_geti hx hb hts hown hW 21 (by decide) q1292 dX8_next_224 ?_
  refine lv_iconst (v := (1 : Int32)) hx hb dX8_next_227 (by decide) ?_
  refine lv_iadd hx hb dX8_next_228 ?_
  refine mm_puti hx hb hts hown hW hS 21 (by decide) q1292 rfl rfl rfl dX8_next_229 (fun H locs hW hS => ?_)
  obtain ⟨σ34, eσ34⟩ : ∃ z, z = gg_s σ33 0 21 ((gg_g σ33 0 21) + (1 : Int32)) := ⟨_, rfl⟩
  rw [← eσ34] at hW
  have hw := hw σ34 eσ34
  refine lv_goto (tgt := 160) hx hb dX8_next_232 (by decide) ?_
  exact hK160 (x2 + (1 : Int32)) σ34 _ _ _ hw hW hS (lv_sub hl [1, 0] rfl)
set_option maxHeartbeats 4000000 in
set_option maxRecDepth 100000 in
theorem mmk_next_160 {p : Program} {l : Launch} {e : Env} {s : State} {m : MethodId} {args : Array Value} {below : List Frame} {meth : Method} {c : Code} {D : va_G} {cl : List vw_C} {E : ClassId × ClassId} {A : Nat → Prop} {ad : Nat → Nat} {Q : gg_S → Prop}   (C0 : gg_C p s m args meth c RX8 cX8_next 3 none)  :
    ∀ n : Nat, ∀ (x2 : Int32) (σ : gg_S) (H : Heap) (locs : List Loc) (ls : Array Slot), mmw_next_160 Q n x2 σ → mm_W D cl E A ad σ s H → va_S A s.heap H locs → lv_has ls 3 [(0, .ref (ad 0)), (2, .int x2)] → W p l e mmr_next s m args below meth c H locs 0 0 (MQ below (va_Qv Q (fun u t => mm_W D cl E A ad u t t.heap) A) args s 0 0 A) (F0 m 160 ls []) := by
  obtain ⟨hx, hb, hml, hown, hts, hr, hlocks⟩ := id C0
  intro n
  induction n with
  | zero =>
    intro x2 σ H locs ls hw hW hS hl
    exact absurd hw (by unfold mmw_next_160; exact id)
  | succ n ih =>
    intro x2 σ H locs ls hw hW hS hl
    unfold mmw_next_160 at hw
    refine lv_aload_n hx hb dX8_next_160 rfl (lv_at hl 0 rfl) ?_
    refine lv_aload_n hx hb dX8_next_161 rfl (lv_at hl 0 rfl) ?_
    refine mm_geti hx hb hts hown hW 21 (by decide) q1292 dX8_next_162 ?_
    refine mm_VI ⟨hx, hb, hml, hown, hts⟩ (mmt_byteAt l _ _ hw) (cwV 1 hts (lw_V q1466 q1468 qs66 q120 q1469) rfl rfl rfl cd_X8_byteAt ⟨Nat.le_of_ble_eq_true rfl, Nat.le_of_ble_eq_true rfl⟩) hW (mm_recv hW) hS rfl hl.1 rfl (Nat.le_of_ble_eq_true rfl) dX8_next_165 (fun r28 σ27 H locs hw hW hS => ?_)
    refine lv_i2l (v := (r28).toInt64) hx hb dX8_next_168 rfl ?_
    refine lv_ldc2 (own := RX8) (v := (48 : Int64)) hx hb hown (hts _ q1472) dX8_next_169 ?_
    refine lv_ldc2 (own := RX8) (v := (57 : Int64)) hx hb hown (hts _ q1473) dX8_next_172 ?_
    refine mm_SI ⟨hx, hb, hml, hown, hts⟩ (mmt_in l _ _ _ _ hw) (va_cwS 3 hts (lw_S q1422 q1423 q120 q1424) rfl rfl rfl cd_X8_in.2 ⟨Nat.le_of_ble_eq_true rfl, Nat.le_of_ble_eq_true rfl⟩) hW hS rfl hl.1 rfl (Nat.le_of_ble_eq_true rfl) dX8_next_175 (fun r30 σ29 H locs hw hW hS => ?_)
    obtain ⟨hz_r30, hw⟩ := hw
    refine lv_if_eq (tgt := 235) hx hb dX8_next_178 (by decide) (fun c38 => ?_) (fun c38 => ?_)
    · have hw := hw.1 c38
      refine lv_aload_n hx hb dX8_next_235 rfl (lv_at hl 0 rfl) ?_
      refine lv_iload_n hx hb dX8_next_236 rfl (lv_at hl 1 rfl) ?_
      refine lv_iconst (v := (4 : Int32)) hx hb dX8_next_237 (by decide) ?_
      refine lv_icmp_le (tgt := 245) hx hb dX8_next_238 (by decide) (fun c32 => ?_) (fun c32 => ?_)
      · have hw := hw.1 c32
        refine lv_iconst (v := (2 : Int32)) hx hb dX8_next_245 (by decide) ?_
        exact mmk_next_246  C0   (2 : Int32) σ29 _ _ _ hw hW hS (lv_sub hl [0] rfl)
      · have hw := hw.2 c32
        refine lv_iconst (v := (4 : Int32)) hx hb dX8_next_241 (by decide) ?_
        refine lv_goto (tgt := 246) hx hb dX8_next_242 (by decide) ?_
        exact mmk_next_246  C0   (4 : Int32) σ29 _ _ _ hw hW hS (lv_sub hl [0] rfl)
    · have hw := hw.2 c38
      refine lv_aload_n hx hb dX8_next_181 rfl (lv_at hl 0 rfl) ?_
      refine lv_iload_n hx hb dX8_next_182 rfl (lv_at hl 1 rfl) ?_
      refine lv_iconst (v := (4 : Int32)) hx hb dX8_next_183 (by decide) ?_
      refine lv_icmp_ge (tgt := 212) hx hb dX8_next_184 (by decide) (fun c37 => ?_) (fun c37 => ?_)
      · have hw := hw.1 c37
        refine lv_aload_n hx hb dX8_next_212 rfl (lv_at hl 0 rfl) ?_
        refine mm_getw hx hb hts hown hW q1295 dX8_next_213 ?_
        exact mmk_next_216  C0  (fun y0 τ H9 l9 s9 => ih y0 τ H9 l9 s9) x2 σ29.2 σ29 _ _ _ hw hW hS (hl)
      · have hw := hw.2 c37
        refine lv_ldc2 (own := RX8) (v := (10 : Int64)) hx hb hown (hts _ q1449) dX8_next_187 ?_
        refine lv_aload_n hx hb dX8_next_190 rfl (lv_at hl 0 rfl) ?_
        refine mm_getw hx hb hts hown hW q1295 dX8_next_191 ?_
        refine lv_lmul hx hb dX8_next_194 ?_
        refine lv_aload_n hx hb dX8_next_195 rfl (lv_at hl 0 rfl) ?_
        refine lv_aload_n hx hb dX8_next_196 rfl (lv_at hl 0 rfl) ?_
        refine mm_geti hx hb hts hown hW 21 (by decide) q1292 dX8_next_197 ?_
        refine mm_VI ⟨hx, hb, hml, hown, hts⟩ (mmt_byteAt l _ _ hw) (cwV 1 hts (lw_V q1466 q1468 qs66 q120 q1469) rfl rfl rfl cd_X8_byteAt ⟨Nat.le_of_ble_eq_true rfl, Nat.le_of_ble_eq_true rfl⟩) hW (mm_recv hW) hS rfl hl.1 rfl (Nat.le_of_ble_eq_true rfl) dX8_next_200 (fun r36 σ35 H locs hw hW hS => ?_)
        refine lv_i2l (v := (r36).toInt64) hx hb dX8_next_203 rfl ?_
        refine lv_ladd hx hb dX8_next_204 ?_
        refine lv_ldc2 (own := RX8) (v := (48 : Int64)) hx hb hown (hts _ q1472) dX8_next_205 ?_
        refine lv_lsub hx hb dX8_next_208 ?_
        refine lv_goto (tgt := 216) hx hb dX8_next_209 (by decide) ?_
        exact mmk_next_216  C0  (fun y0 τ H9 l9 s9 => ih y0 τ H9 l9 s9) x2 ((((10 : Int64) * σ29.2) + (r36).toInt64) - (48 : Int64)) σ35 _ _ _ hw hW hS (hl)
set_option maxHeartbeats 4000000 in
set_option maxRecDepth 100000 in
theorem mmk_next_100 {p : Program} {l : Launch} {e : Env} {s : State} {m : MethodId} {args : Array Value} {below : List Frame} {meth : Method} {c : Code} {D : va_G} {cl : List vw_C} {E : ClassId × ClassId} {A : Nat → Prop} {ad : Nat → Nat} {Q : gg_S → Prop}   (C0 : gg_C p s m args meth c RX8 cX8_next 3 none)  :
    ∀ n : Nat, ∀  (σ : gg_S) (H : Heap) (locs : List Loc) (ls : Array Slot), mmw_next_100 Q n σ → mm_W D cl E A ad σ s H → va_S A s.heap H locs → lv_has ls 3 [(0, .ref (ad 0))] → W p l e mmr_next s m args below meth c H locs 0 0 (MQ below (va_Qv Q (fun u t => mm_W D cl E A ad u t t.heap) A) args s 0 0 A) (F0 m 100 ls []) := by
  obtain ⟨hx, hb, hml, hown, hts, hr, hlocks⟩ := id C0
  intro n
  induction n with
  | zero =>
    intro σ H locs ls hw hW hS hl
    exact absurd hw (by unfold mmw_next_100; exact id)
  | succ n ih =>
    intro σ H locs ls hw hW hS hl
    unfold mmw_next_100 at hw
    refine lv_aload_n hx hb dX8_next_100 rfl (lv_at hl 0 rfl) ?_
    refine lv_aload_n hx hb dX8_next_101 rfl (lv_at hl 0 rfl) ?_
    refine mm_geti hx hb hts hown hW 21 (by decide) q1292 dX8_next_102 ?_
    refine mm_VI ⟨hx, hb, hml, hown, hts⟩ (mmt_byteAt l _ _ hw) (cwV 1 hts (lw_V q1466 q1468 qs66 q120 q1469) rfl rfl rfl cd_X8_byteAt ⟨Nat.le_of_ble_eq_true rfl, Nat.le_of_ble_eq_true rfl⟩) hW (mm_recv hW) hS rfl hl.1 rfl (Nat.le_of_ble_eq_true rfl) dX8_next_105 (fun r42 σ41 H locs hw hW hS => ?_)
    refine lv_i2l (v := (r42).toInt64) hx hb dX8_next_108 rfl ?_
    refine lv_ldc2 (own := RX8) (v := (97 : Int64)) hx hb hown (hts _ q1470) dX8_next_109 ?_
    refine lv_ldc2 (own := RX8) (v := (122 : Int64)) hx hb hown (hts _ q1471) dX8_next_112 ?_
    refine mm_SI ⟨hx, hb, hml, hown, hts⟩ (mmt_in l _ _ _ _ hw) (va_cwS 3 hts (lw_S q1422 q1423 q120 q1424) rfl rfl rfl cd_X8_in.2 ⟨Nat.le_of_ble_eq_true rfl, Nat.le_of_ble_eq_true rfl⟩) hW hS rfl hl.1 rfl (Nat.le_of_ble_eq_true rfl) dX8_next_115 (fun r44 σ43 H locs hw hW hS => ?_)
    obtain ⟨hz_r44, hw⟩ := hw
    refine lv_if_eq (tgt := 321) hx hb dX8_next_118 (by decide) (fun c46 => ?_) (fun c46 => ?_)
    · have hw := hw.1 c46
      exact gg_vret (mm_mv D cl E A ad) C0 hW hS hw dX8_next_321
    · have hw := hw.2 c46
      refine lv_aload_n hx hb dX8_next_121 rfl (lv_at hl 0 rfl) ?_
      refine lv_dup hx hb dX8_next_122 rfl ?_
      refine mm_geti hx hb hts hown hW 21 (by decide) q1292 dX8_next_123 ?_
      refine lv_iconst (v := (1 : Int32)) hx hb dX8_next_126 (by decide) ?_
      refine lv_iadd hx hb dX8_next_127 ?_
      refine mm_puti hx hb hts hown hW hS 21 (by decide) q1292 rfl rfl rfl dX8_next_128 (fun H locs hW hS => ?_)
      obtain ⟨σ45, eσ45⟩ : ∃ z, z = gg_s σ43 0 21 ((gg_g σ43 0 21) + (1 : Int32)) := ⟨_, rfl⟩
      rw [← eσ45] at hW
      have hw := hw σ45 eσ45
      refine lv_goto (tgt := 100) hx hb dX8_next_131 (by decide) ?_
      exact ih σ45 _ _ _ hw hW hS (hl)
set_option maxHeartbeats 4000000 in
set_option maxRecDepth 100000 in
theorem mmk_next_0 {p : Program} {l : Launch} {e : Env} {s : State} {m : MethodId} {args : Array Value} {below : List Frame} {meth : Method} {c : Code} {D : va_G} {cl : List vw_C} {E : ClassId × ClassId} {A : Nat → Prop} {ad : Nat → Nat} {Q : gg_S → Prop}   (C0 : gg_C p s m args meth c RX8 cX8_next 3 none)  :
    ∀ n : Nat, ∀  (σ : gg_S) (H : Heap) (locs : List Loc) (ls : Array Slot), mmw_next_0 Q n σ → mm_W D cl E A ad σ s H → va_S A s.heap H locs → lv_has ls 3 [(0, .ref (ad 0))] → W p l e mmr_next s m args below meth c H locs 0 0 (MQ below (va_Qv Q (fun u t => mm_W D cl E A ad u t t.heap) A) args s 0 0 A) (F0 m 0 ls []) := by
  obtain ⟨hx, hb, hml, hown, hts, hr, hlocks⟩ := id C0
  intro n
  induction n with
  | zero =>
    intro σ H locs ls hw hW hS hl
    exact absurd hw (by unfold mmw_next_0; exact id)
  | succ n ih =>
    intro σ H locs ls hw hW hS hl
    unfold mmw_next_0 at hw
    refine lv_aload_n hx hb dX8_next_0 rfl (lv_at hl 0 rfl) ?_
    refine lv_aload_n hx hb dX8_next_1 rfl (lv_at hl 0 rfl) ?_
    refine mm_geti hx hb hts hown hW 21 (by decide) q1292 dX8_next_2 ?_
    refine mm_VI ⟨hx, hb, hml, hown, hts⟩ (mmt_byteAt l _ _ hw) (cwV 1 hts (lw_V q1466 q1468 qs66 q120 q1469) rfl rfl rfl cd_X8_byteAt ⟨Nat.le_of_ble_eq_true rfl, Nat.le_of_ble_eq_true rfl⟩) hW (mm_recv hW) hS rfl hl.1 rfl (Nat.le_of_ble_eq_true rfl) dX8_next_5 (fun r2 σ1 H locs hw hW hS => ?_)
    refine lv_bipush (v := (32 : Int32)) hx hb dX8_next_8 (by decide) ?_
    refine lv_icmp_eq (tgt := 26) hx hb dX8_next_10 (by decide) (fun c52 => ?_) (fun c52 => ?_)
    · have hw := hw.1 c52
      exact mmk_next_26  C0  (fun τ H9 l9 s9 => ih τ H9 l9 s9) σ1 _ _ _ hw hW hS (hl)
    · have hw := hw.2 c52
      refine lv_aload_n hx hb dX8_next_13 rfl (lv_at hl 0 rfl) ?_
      refine lv_aload_n hx hb dX8_next_14 rfl (lv_at hl 0 rfl) ?_
      refine mm_geti hx hb hts hown hW 21 (by decide) q1292 dX8_next_15 ?_
      refine mm_VI ⟨hx, hb, hml, hown, hts⟩ (mmt_byteAt l _ _ hw) (cwV 1 hts (lw_V q1466 q1468 qs66 q120 q1469) rfl rfl rfl cd_X8_byteAt ⟨Nat.le_of_ble_eq_true rfl, Nat.le_of_ble_eq_true rfl⟩) hW (mm_recv hW) hS rfl hl.1 rfl (Nat.le_of_ble_eq_true rfl) dX8_next_18 (fun r5 σ4 H locs hw hW hS => ?_)
      refine lv_bipush (v := (10 : Int32)) hx hb dX8_next_21 (by decide) ?_
      refine lv_icmp_ne (tgt := 39) hx hb dX8_next_23 (by decide) (fun c51 => ?_) (fun c51 => ?_)
      · have hw := hw.2 c51
        refine lv_aload_n hx hb dX8_next_39 rfl (lv_at hl 0 rfl) ?_
        refine lv_aload_n hx hb dX8_next_40 rfl (lv_at hl 0 rfl) ?_
        refine mm_geti hx hb hts hown hW 21 (by decide) q1292 dX8_next_41 ?_
        refine mm_puti hx hb hts hown hW hS 23 (by decide) q1294 rfl rfl rfl dX8_next_44 (fun H locs hW hS => ?_)
        obtain ⟨σ6, eσ6⟩ : ∃ z, z = gg_s σ4 0 23 (gg_g σ4 0 21) := ⟨_, rfl⟩
        rw [← eσ6] at hW
        have hw := hw σ6 eσ6
        refine lv_aload_n hx hb dX8_next_47 rfl (lv_at hl 0 rfl) ?_
        refine lv_aload_n hx hb dX8_next_48 rfl (lv_at hl 0 rfl) ?_
        refine mm_geti hx hb hts hown hW 21 (by decide) q1292 dX8_next_49 ?_
        refine mm_VI ⟨hx, hb, hml, hown, hts⟩ (mmt_byteAt l _ _ hw) (cwV 1 hts (lw_V q1466 q1468 qs66 q120 q1469) rfl rfl rfl cd_X8_byteAt ⟨Nat.le_of_ble_eq_true rfl, Nat.le_of_ble_eq_true rfl⟩) hW (mm_recv hW) hS rfl hl.1 rfl (Nat.le_of_ble_eq_true rfl) dX8_next_52 (fun r8 σ7 H locs hw hW hS => ?_)
        refine lv_istore_n (lv' := [(1, .int r8), (0, .ref (ad 0))]) hx hb dX8_next_55 rfl hl (by decide) rfl (fun ls hl => ?_)
        refine lv_aload_n hx hb dX8_next_56 rfl (lv_at hl 1 rfl) ?_
        refine lv_iconst (v := (4 : Int32)) hx hb dX8_next_57 (by decide) ?_
        refine mm_puti hx hb hts hown hW hS 22 (by decide) q1293 rfl rfl rfl dX8_next_58 (fun H locs hW hS => ?_)
        obtain ⟨σ9, eσ9⟩ : ∃ z, z = gg_s σ7 0 22 (4 : Int32) := ⟨_, rfl⟩
        rw [← eσ9] at hW
        have hw := hw σ9 eσ9
        refine lv_iload_n hx hb dX8_next_61 rfl (lv_at hl 0 rfl) ?_
        refine lv_if_ge (tgt := 81) hx hb dX8_next_62 (by decide) (fun c50 => ?_) (fun c50 => ?_)
        · have hw := hw.1 c50
          refine lv_iload_n hx hb dX8_next_81 rfl (lv_at hl 0 rfl) ?_
          refine lv_i2l (v := (r8).toInt64) hx hb dX8_next_82 rfl ?_
          refine lv_ldc2 (own := RX8) (v := (97 : Int64)) hx hb hown (hts _ q1470) dX8_next_83 ?_
          refine lv_ldc2 (own := RX8) (v := (122 : Int64)) hx hb hown (hts _ q1471) dX8_next_86 ?_
          refine mm_SI ⟨hx, hb, hml, hown, hts⟩ (mmt_in l _ _ _ _ hw) (va_cwS 3 hts (lw_S q1422 q1423 q120 q1424) rfl rfl rfl cd_X8_in.2 ⟨Nat.le_of_ble_eq_true rfl, Nat.le_of_ble_eq_true rfl⟩) hW hS rfl hl.1 rfl (Nat.le_of_ble_eq_true rfl) dX8_next_89 (fun r11 σ10 H locs hw hW hS => ?_)
          obtain ⟨hz_r11, hw⟩ := hw
          refine lv_if_eq (tgt := 134) hx hb dX8_next_92 (by decide) (fun c47 => ?_) (fun c47 => ?_)
          · have hw := hw.1 c47
            refine lv_iload_n hx hb dX8_next_134 rfl (lv_at hl 0 rfl) ?_
            refine lv_i2l (v := (r8).toInt64) hx hb dX8_next_135 rfl ?_
            refine lv_ldc2 (own := RX8) (v := (48 : Int64)) hx hb hown (hts _ q1472) dX8_next_136 ?_
            refine lv_ldc2 (own := RX8) (v := (57 : Int64)) hx hb hown (hts _ q1473) dX8_next_139 ?_
            refine mm_SI ⟨hx, hb, hml, hown, hts⟩ (mmt_in l _ _ _ _ hw) (va_cwS 3 hts (lw_S q1422 q1423 q120 q1424) rfl rfl rfl cd_X8_in.2 ⟨Nat.le_of_ble_eq_true rfl, Nat.le_of_ble_eq_true rfl⟩) hW hS rfl hl.1 rfl (Nat.le_of_ble_eq_true rfl) dX8_next_142 (fun r13 σ12 H locs hw hW hS => ?_)
            obtain ⟨hz_r13, hw⟩ := hw
            refine lv_if_eq (tgt := 252) hx hb dX8_next_145 (by decide) (fun c39 => ?_) (fun c39 => ?_)
            · have hw := hw.1 c39
              refine lv_iload_n hx hb dX8_next_252 rfl (lv_at hl 0 rfl) ?_
              refine lv_bipush (v := (40 : Int32)) hx hb dX8_next_253 (by decide) ?_
              refine lv_icmp_eq (tgt := 300) hx hb dX8_next_255 (by decide) (fun c24 => ?_) (fun c24 => ?_)
              · have hw := hw.1 c24
                exact mmk_next_300  C0   r8 σ12 _ _ _ hw hW hS (lv_sub hl [1, 0] rfl)
              · have hw := hw.2 c24
                refine lv_iload_n hx hb dX8_next_258 rfl (lv_at hl 0 rfl) ?_
                refine lv_bipush (v := (41 : Int32)) hx hb dX8_next_259 (by decide) ?_
                refine lv_icmp_eq (tgt := 300) hx hb dX8_next_261 (by decide) (fun c23 => ?_) (fun c23 => ?_)
                · have hw := hw.1 c23
                  exact mmk_next_300  C0   r8 σ12 _ _ _ hw hW hS (lv_sub hl [1, 0] rfl)
                · have hw := hw.2 c23
                  refine lv_iload_n hx hb dX8_next_264 rfl (lv_at hl 0 rfl) ?_
                  refine lv_bipush (v := (59 : Int32)) hx hb dX8_next_265 (by decide) ?_
                  refine lv_icmp_eq (tgt := 300) hx hb dX8_next_267 (by decide) (fun c22 => ?_) (fun c22 => ?_)
                  · have hw := hw.1 c22
                    exact mmk_next_300  C0   r8 σ12 _ _ _ hw hW hS (lv_sub hl [1, 0] rfl)
                  · have hw := hw.2 c22
                    refine lv_iload_n hx hb dX8_next_270 rfl (lv_at hl 0 rfl) ?_
                    refine lv_bipush (v := (43 : Int32)) hx hb dX8_next_271 (by decide) ?_
                    refine lv_icmp_eq (tgt := 300) hx hb dX8_next_273 (by decide) (fun c21 => ?_) (fun c21 => ?_)
                    · have hw := hw.1 c21
                      exact mmk_next_300  C0   r8 σ12 _ _ _ hw hW hS (lv_sub hl [1, 0] rfl)
                    · have hw := hw.2 c21
                      refine lv_iload_n hx hb dX8_next_276 rfl (lv_at hl 0 rfl) ?_
                      refine lv_bipush (v := (45 : Int32)) hx hb dX8_next_277 (by decide) ?_
                      refine lv_icmp_eq (tgt := 300) hx hb dX8_next_279 (by decide) (fun c20 => ?_) (fun c20 => ?_)
                      · have hw := hw.1 c20
                        exact mmk_next_300  C0   r8 σ12 _ _ _ hw hW hS (lv_sub hl [1, 0] rfl)
                      · have hw := hw.2 c20
                        refine lv_iload_n hx hb dX8_next_282 rfl (lv_at hl 0 rfl) ?_
                        refine lv_bipush (v := (42 : Int32)) hx hb dX8_next_283 (by decide) ?_
                        refine lv_icmp_eq (tgt := 300) hx hb dX8_next_285 (by decide) (fun c19 => ?_) (fun c19 => ?_)
                        · have hw := hw.1 c19
                          exact mmk_next_300  C0   r8 σ12 _ _ _ hw hW hS (lv_sub hl [1, 0] rfl)
                        · have hw := hw.2 c19
                          refine lv_iload_n hx hb dX8_next_288 rfl (lv_at hl 0 rfl) ?_
                          refine lv_bipush (v := (60 : Int32)) hx hb dX8_next_289 (by decide) ?_
                          refine lv_icmp_eq (tgt := 300) hx hb dX8_next_291 (by decide) (fun c18 => ?_) (fun c18 => ?_)
                          · have hw := hw.1 c18
                            exact mmk_next_300  C0   r8 σ12 _ _ _ hw hW hS (lv_sub hl [1, 0] rfl)
                          · have hw := hw.2 c18
                            refine lv_iload_n hx hb dX8_next_294 rfl (lv_at hl 0 rfl) ?_
                            refine lv_bipush (v := (61 : Int32)) hx hb dX8_next_295 (by decide) ?_
                            refine lv_icmp_ne (tgt := 321) hx hb dX8_next_297 (by decide) (fun c17 => ?_) (fun c17 => ?_)
                            · have hw := hw.2 c17
                              exact gg_vret (mm_mv D cl E A ad) C0 hW hS hw dX8_next_321
                            · have hw := hw.1 c17
                              exact mmk_next_300  C0   r8 σ12 _ _ _ hw hW hS (lv_sub hl [1, 0] rfl)
            · have hw := hw.2 c39
              refine lv_aload_n hx hb dX8_next_148 rfl (lv_at hl 1 rfl) ?_
              refine lv_iconst (v := (2 : Int32)) hx hb dX8_next_149 (by decide) ?_
              refine mm_puti hx hb hts hown hW hS 22 (by decide) q1293 rfl rfl rfl dX8_next_150 (fun H locs hW hS => ?_)
              obtain ⟨σ25, eσ25⟩ : ∃ z, z = gg_s σ12 0 22 (2 : Int32) := ⟨_, rfl⟩
              rw [← eσ25] at hW
              have hw := hw σ25 eσ25
              refine lv_aload_n hx hb dX8_next_153 rfl (lv_at hl 1 rfl) ?_
              refine lv_lconst (v := (0 : Int64)) hx hb dX8_next_154 (by decide) ?_
              refine mm_putw hx hb hts hown hW hS q1295 dX8_next_155 (fun H locs hW hS => ?_)
              obtain ⟨σ26, eσ26⟩ : ∃ z, z = gg_w σ25 (0 : Int64) := ⟨_, rfl⟩
              rw [← eσ26] at hW
              have hw := hw σ26 eσ26
              refine lv_iconst (v := (0 : Int32)) hx hb dX8_next_158 (by decide) ?_
              refine lv_istore_n (lv' := [(2, .int (0 : Int32)), (1, .int r8), (0, .ref (ad 0))]) hx hb dX8_next_159 rfl hl (by decide) rfl (fun ls hl => ?_)
              obtain ⟨n9, hw⟩ := hw
              exact mmk_next_160  C0   n9 (0 : Int32) σ26 _ _ _ hw hW hS (lv_sub hl [2, 0] rfl)
          · have hw := hw.2 c47
            refine lv_aload_n hx hb dX8_next_95 rfl (lv_at hl 1 rfl) ?_
            refine lv_iconst (v := (1 : Int32)) hx hb dX8_next_96 (by decide) ?_
            refine mm_puti hx hb hts hown hW hS 22 (by decide) q1293 rfl rfl rfl dX8_next_97 (fun H locs hW hS => ?_)
            obtain ⟨σ40, eσ40⟩ : ∃ z, z = gg_s σ10 0 22 (1 : Int32) := ⟨_, rfl⟩
            rw [← eσ40] at hW
            have hw := hw σ40 eσ40
            obtain ⟨n9, hw⟩ := hw
            exact mmk_next_100  C0   n9 σ40 _ _ _ hw hW hS (lv_sub hl [1] rfl)
        · have hw := hw.2 c50
          refine lv_aload_n hx hb dX8_next_65 rfl (lv_at hl 1 rfl) ?_
          refine lv_iconst (v := (0 : Int32)) hx hb dX8_next_66 (by decide) ?_
          refine mm_puti hx hb hts hown hW hS 22 (by decide) q1293 rfl rfl rfl dX8_next_67 (fun H locs hW hS => ?_)
          obtain ⟨σ48, eσ48⟩ : ∃ z, z = gg_s σ9 0 22 (0 : Int32) := ⟨_, rfl⟩
          rw [← eσ48] at hW
          have hw := hw σ48 eσ48
          refine lv_aload_n hx hb dX8_next_70 rfl (lv_at hl 1 rfl) ?_
          refine lv_aload_n hx hb dX8_next_71 rfl (lv_at hl 1 rfl) ?_
          refine mm_geti hx hb hts hown hW 20 (by decide) q1291 dX8_next_72 ?_
          refine mm_puti hx hb hts hown hW hS 23 (by decide) q1294 rfl rfl rfl dX8_next_75 (fun H locs hW hS => ?_)
          obtain ⟨σ49, eσ49⟩ : ∃ z, z = gg_s σ48 0 23 (gg_g σ48 0 20) := ⟨_, rfl⟩
          rw [← eσ49] at hW
          have hw := hw σ49 eσ49
          refine lv_goto (tgt := 321) hx hb dX8_next_78 (by decide) ?_
          exact gg_vret (mm_mv D cl E A ad) C0 hW hS hw dX8_next_321
      · have hw := hw.1 c51
        exact mmk_next_26  C0  (fun τ H9 l9 s9 => ih τ H9 l9 s9) σ4 _ _ _ hw hW hS (hl)
set_option maxHeartbeats 4000000 in
set_option maxRecDepth 100000 in
theorem mmt_next (l : Launch) {D : va_G} {cl : List vw_C} {E : ClassId × ClassId} {A : Nat → Prop} {ad : Nat → Nat}   (σ : gg_S) {Q : gg_S → Prop} (hw : mmw_next σ Q) :
    Met l yX8_next (ws_ yX8_next cX8_next 3 none) mmr_next (va_Pc [.ref (ad 0)] (fun U => mm_W D cl E A ad σ U U.heap)) (va_Qv Q (fun u t => mm_W D cl E A ad u t t.heap) A) 0 0 A := by
  refine gg_entry (W0 := fun s H => mm_W D cl E A ad σ s H) (by decide) (Nat.le_of_ble_eq_true rfl) ?_
  intro p e s m args below meth c C0 hW ls hl
  have C0 : gg_C p s m args meth c RX8 cX8_next 3 none := C0
  obtain ⟨hx, hb, hml, hown, hts, hr, hlocks⟩ := id C0
  have hl : lv_has ls 3 [(0, .ref (ad 0))] := hl
  have hS : va_S A s.heap s.heap [] := va_S.rf
  unfold mmw_next at hw
  obtain ⟨n9, hw⟩ := hw
  exact mmk_next_0  C0   n9 σ _ _ _ hw hW hS (hl)
theorem cd_X8_isSign : yX8_isSign.cls = RX8 ∧ yX8_isSign.cls ≠ "java/lang/invoke/MethodHandle" ∧ yX8_isSign.cls ≠ "java/lang/invoke/VarHandle" ∧ (parseMethodDescriptor yX8_isSign.desc).map (fun d => d.parameters.length) = some 1 := by decide +kernel
/-! GleanersForGapsModel.isSign(I)Z -/
def mmw_isSign  (a1 : Int32) (σ : gg_S) (Q : Int32 → gg_S → Prop) : Prop :=
    ((((gg_g σ 0 26) = 0) → ((((gg_g σ 0 22) = (3 : Int32)) → ((((lg_cmp σ.2 ((a1).toInt64)) = 0) → Q (1 : Int32) σ) ∧ (¬ ((lg_cmp σ.2 ((a1).toInt64)) = 0) → Q (0 : Int32) σ))) ∧ (¬ ((gg_g σ 0 22) = (3 : Int32)) → Q (0 : Int32) σ))) ∧ (¬ ((gg_g σ 0 26) = 0) → Q (0 : Int32) σ))
abbrev mmr_isSign : Room := { frames := 0, cells := 0, slots := 0, locals := 0 }
set_option maxHeartbeats 4000000 in
set_option maxRecDepth 100000 in
theorem mmt_isSign (l : Launch) {D : va_G} {cl : List vw_C} {E : ClassId × ClassId} {A : Nat → Prop} {ad : Nat → Nat}  (a1 : Int32) (σ : gg_S) {Q : Int32 → gg_S → Prop} (hw : mmw_isSign a1 σ Q) :
    Met l yX8_isSign (ws_ yX8_isSign cX8_isSign 2 (some .boolean)) mmr_isSign (va_Pc [.ref (ad 0), .int a1] (fun U => mm_W D cl E A ad σ U U.heap)) (va_Qi (fun r u => (r = 0 ∨ r = 1) ∧ Q r u) (fun u t => mm_W D cl E A ad u t t.heap) A) 0 0 A := by
  refine gg_entry (W0 := fun s H => mm_W D cl E A ad σ s H) (by decide) (Nat.le_of_ble_eq_true rfl) ?_
  intro p e s m args below meth c C0 hW ls hl
  have C0 : gg_C p s m args meth c RX8 cX8_isSign 2 (some .boolean) := C0
  obtain ⟨hx, hb, hml, hown, hts, hr, hlocks⟩ := id C0
  have hl : lv_has ls 2 [(0, .ref (ad 0)), (1, .int a1)] := hl
  have hS : va_S A s.heap s.heap [] := va_S.rf
  unfold mmw_isSign at hw
  refine lv_aload_n hx hb dX8_isSign_0 rfl (lv_at hl 0 rfl) ?_
  refine mm_geti hx hb hts hown hW 26 (by decide) q1297 dX8_isSign_1 ?_
  refine lv_if_ne (tgt := 29) hx hb dX8_isSign_4 (by decide) (fun c3 => ?_) (fun c3 => ?_)
  · have hw := hw.2 c3
    refine lv_iconst (v := (0 : Int32)) hx hb dX8_isSign_29 (by decide) ?_
    exact gg_zret (mm_mv D cl E A ad) C0 hW hS (Or.inl rfl) hw dX8_isSign_30
  · have hw := hw.1 c3
    refine lv_aload_n hx hb dX8_isSign_7 rfl (lv_at hl 0 rfl) ?_
    refine mm_geti hx hb hts hown hW 22 (by decide) q1293 dX8_isSign_8 ?_
    refine lv_iconst (v := (3 : Int32)) hx hb dX8_isSign_11 (by decide) ?_
    refine lv_icmp_ne (tgt := 29) hx hb dX8_isSign_12 (by decide) (fun c2 => ?_) (fun c2 => ?_)
    · have hw := hw.2 c2
      refine lv_iconst (v := (0 : Int32)) hx hb dX8_isSign_29 (by decide) ?_
      exact gg_zret (mm_mv D cl E A ad) C0 hW hS (Or.inl rfl) hw dX8_isSign_30
    · have hw := hw.1 c2
      refine lv_aload_n hx hb dX8_isSign_15 rfl (lv_at hl 0 rfl) ?_
      refine mm_getw hx hb hts hown hW q1295 dX8_isSign_16 ?_
      refine lv_iload_n hx hb dX8_isSign_19 rfl (lv_at hl 1 rfl) ?_
      refine lv_i2l (v := (a1).toInt64) hx hb dX8_isSign_20 rfl ?_
      refine W.lcmp hx hb dX8_isSign_21 ?_
      refine lv_if_ne (tgt := 29) hx hb dX8_isSign_22 (by decide) (fun c1 => ?_) (fun c1 => ?_)
      · have hw := hw.2 c1
        refine lv_iconst (v := (0 : Int32)) hx hb dX8_isSign_29 (by decide) ?_
        exact gg_zret (mm_mv D cl E A ad) C0 hW hS (Or.inl rfl) hw dX8_isSign_30
      · have hw := hw.1 c1
        refine lv_iconst (v := (1 : Int32)) hx hb dX8_isSign_25 (by decide) ?_
        refine lv_goto (tgt := 30) hx hb dX8_isSign_26 (by decide) ?_
        exact gg_zret (mm_mv D cl E A ad) C0 hW hS (Or.inr rfl) hw dX8_isSign_30
theorem cd_X8_name : yX8_name.cls = RX8 ∧ yX8_name.cls ≠ "java/lang/invoke/MethodHandle" ∧ yX8_name.cls ≠ "java/lang/invoke/VarHandle" ∧ (parseMethodDescriptor yX8_name.desc).map (fun d => d.parameters.length) = some 0 := by decide +kernel
/-! GleanersForGapsModel.name()I -/
def mmw_name   (σ : gg_S) (Q : Int32 → gg_S → Prop) : Prop :=
    (mmw_isWord (103 : Int32) (97 : Int32) (112 : Int32) (0 : Int32) (0 : Int32) (0 : Int32) (0 : Int32) (0 : Int32) σ (fun r2 σ1 => (((r2 = 0) → (mmw_isWord (110 : Int32) (116 : Int32) (104 : Int32) (0 : Int32) (0 : Int32) (0 : Int32) (0 : Int32) (0 : Int32) σ1 (fun r4 σ3 => (((r4 = 0) → (mmw_isWord (110 : Int32) (117 : Int32) (109 : Int32) (98 : Int32) (101 : Int32) (114 : Int32) (0 : Int32) (0 : Int32) σ3 (fun r6 σ5 => (((r6 = 0) → (mmw_isWord (110 : Int32) (105 : Int32) (103 : Int32) (104 : Int32) (116 : Int32) (0 : Int32) (0 : Int32) (0 : Int32) σ5 (fun r8 σ7 => (((r8 = 0) → (mmw_isWord (97 : Int32) (112 : Int32) (114 : Int32) (111 : Int32) (110 : Int32) (0 : Int32) (0 : Int32) (0 : Int32) σ7 (fun r10 σ9 => (((r10 = 0) → (mmw_isWord (114 : Int32) (111 : Int32) (119 : Int32) (0 : Int32) (0 : Int32) (0 : Int32) (0 : Int32) (0 : Int32) σ9 (fun r12 σ11 => (((r12 = 0) → (mmw_fail σ11 (fun σ13 => Q (0 : Int32) σ13))) ∧ (¬ (r12 = 0) → Q (gg_g σ11 0 18) σ11))))) ∧ (¬ (r10 = 0) → Q (gg_g σ9 0 17) σ9))))) ∧ (¬ (r8 = 0) → Q (gg_g σ7 0 16) σ7))))) ∧ (¬ (r6 = 0) → Q (gg_g σ5 0 15) σ5))))) ∧ (¬ (r4 = 0) → Q (gg_g σ3 0 14) σ3))))) ∧ (¬ (r2 = 0) → Q (gg_g σ1 0 13) σ1))))
abbrev mmr_name : Room := { frames := 3, cells := 0, slots := 0, locals := 71 }
set_option maxHeartbeats 4000000 in
set_option maxRecDepth 100000 in
theorem mmt_name (l : Launch) {D : va_G} {cl : List vw_C} {E : ClassId × ClassId} {A : Nat → Prop} {ad : Nat → Nat}   (σ : gg_S) {Q : Int32 → gg_S → Prop} (hw : mmw_name σ Q) :
    Met l yX8_name (ws_ yX8_name cX8_name 1 (some .int)) mmr_name (va_Pc [.ref (ad 0)] (fun U => mm_W D cl E A ad σ U U.heap)) (va_Qi Q (fun u t => mm_W D cl E A ad u t t.heap) A) 0 0 A := by
  refine gg_entry (W0 := fun s H => mm_W D cl E A ad σ s H) (by decide) (Nat.le_of_ble_eq_true rfl) ?_
  intro p e s m args below meth c C0 hW ls hl
  have C0 : gg_C p s m args meth c RX8 cX8_name 1 (some .int) := C0
  obtain ⟨hx, hb, hml, hown, hts, hr, hlocks⟩ := id C0
  have hl : lv_has ls 1 [(0, .ref (ad 0))] := hl
  have hS : va_S A s.heap s.heap [] := va_S.rf
  unfold mmw_name at hw
  refine lv_aload_n hx hb dX8_name_0 rfl (lv_at hl 0 rfl) ?_
  refine lv_bipush (v := (103 : Int32)) hx hb dX8_name_1 (by decide) ?_
  refine lv_bipush (v := (97 : Int32)) hx hb dX8_name_3 (by decide) ?_
  refine lv_bipush (v := (112 : Int32)) hx hb dX8_name_5 (by decide) ?_
  refine lv_iconst (v := (0 : Int32)) hx hb dX8_name_7 (by decide) ?_
  refine lv_iconst (v := (0 : Int32)) hx hb dX8_name_8 (by decide) ?_
  refine lv_iconst (v := (0 : Int32)) hx hb dX8_name_9 (by decide) ?_
  refine lv_iconst (v := (0 : Int32)) hx hb dX8_name_10 (by decide) ?_
  refine lv_iconst (v := (0 : Int32)) hx hb dX8_name_11 (by decide) ?_
  refine mm_VI ⟨hx, hb, hml, hown, hts⟩ (mmt_isWord l _ _ _ _ _ _ _ _ _ hw) (cwV 8 hts (lw_V q1474 q1476 qs67 q120 q1477) rfl rfl rfl cd_X8_isWord ⟨Nat.le_of_ble_eq_true rfl, Nat.le_of_ble_eq_true rfl⟩) hW (mm_recv hW) hS rfl hl.1 rfl (Nat.le_of_ble_eq_true rfl) dX8_name_12 (fun r2 σ1 H locs hw hW hS => ?_)
  obtain ⟨hz_r2, hw⟩ := hw
  refine lv_if_eq (tgt := 23) hx hb dX8_name_15 (by decide) (fun c19 => ?_) (fun c19 => ?_)
  · have hw := hw.1 c19
    refine lv_aload_n hx hb dX8_name_23 rfl (lv_at hl 0 rfl) ?_
    refine lv_bipush (v := (110 : Int32)) hx hb dX8_name_24 (by decide) ?_
    refine lv_bipush (v := (116 : Int32)) hx hb dX8_name_26 (by decide) ?_
    refine lv_bipush (v := (104 : Int32)) hx hb dX8_name_28 (by decide) ?_
    refine lv_iconst (v := (0 : Int32)) hx hb dX8_name_30 (by decide) ?_
    refine lv_iconst (v := (0 : Int32)) hx hb dX8_name_31 (by decide) ?_
    refine lv_iconst (v := (0 : Int32)) hx hb dX8_name_32 (by decide) ?_
    refine lv_iconst (v := (0 : Int32)) hx hb dX8_name_33 (by decide) ?_
    refine lv_iconst (v := (0 : Int32)) hx hb dX8_name_34 (by decide) ?_
    refine mm_VI ⟨hx, hb, hml, hown, hts⟩ (mmt_isWord l _ _ _ _ _ _ _ _ _ hw) (cwV 8 hts (lw_V q1474 q1476 qs67 q120 q1477) rfl rfl rfl cd_X8_isWord ⟨Nat.le_of_ble_eq_true rfl, Nat.le_of_ble_eq_true rfl⟩) hW (mm_recv hW) hS rfl hl.1 rfl (Nat.le_of_ble_eq_true rfl) dX8_name_35 (fun r4 σ3 H locs hw hW hS => ?_)
    obtain ⟨hz_r4, hw⟩ := hw
    refine lv_if_eq (tgt := 46) hx hb dX8_name_38 (by decide) (fun c18 => ?_) (fun c18 => ?_)
    · have hw := hw.1 c18
      refine lv_aload_n hx hb dX8_name_46 rfl (lv_at hl 0 rfl) ?_
      refine lv_bipush (v := (110 : Int32)) hx hb dX8_name_47 (by decide) ?_
      refine lv_bipush (v := (117 : Int32)) hx hb dX8_name_49 (by decide) ?_
      refine lv_bipush (v := (109 : Int32)) hx hb dX8_name_51 (by decide) ?_
      refine lv_bipush (v := (98 : Int32)) hx hb dX8_name_53 (by decide) ?_
      refine lv_bipush (v := (101 : Int32)) hx hb dX8_name_55 (by decide) ?_
      refine lv_bipush (v := (114 : Int32)) hx hb dX8_name_57 (by decide) ?_
      refine lv_iconst (v := (0 : Int32)) hx hb dX8_name_59 (by decide) ?_
      refine lv_iconst (v := (0 : Int32)) hx hb dX8_name_60 (by decide) ?_
      refine mm_VI ⟨hx, hb, hml, hown, hts⟩ (mmt_isWord l _ _ _ _ _ _ _ _ _ hw) (cwV 8 hts (lw_V q1474 q1476 qs67 q120 q1477) rfl rfl rfl cd_X8_isWord ⟨Nat.le_of_ble_eq_true rfl, Nat.le_of_ble_eq_true rfl⟩) hW (mm_recv hW) hS rfl hl.1 rfl (Nat.le_of_ble_eq_true rfl) dX8_name_61 (fun r6 σ5 H locs hw hW hS => ?_)
      obtain ⟨hz_r6, hw⟩ := hw
      refine lv_if_eq (tgt := 72) hx hb dX8_name_64 (by decide) (fun c17 => ?_) (fun c17 => ?_)
      · have hw := hw.1 c17
        refine lv_aload_n hx hb dX8_name_72 rfl (lv_at hl 0 rfl) ?_
        refine lv_bipush (v := (110 : Int32)) hx hb dX8_name_73 (by decide) ?_
        refine lv_bipush (v := (105 : Int32)) hx hb dX8_name_75 (by decide) ?_
        refine lv_bipush (v := (103 : Int32)) hx hb dX8_name_77 (by decide) ?_
        refine lv_bipush (v := (104 : Int32)) hx hb dX8_name_79 (by decide) ?_
        refine lv_bipush (v := (116 : Int32)) hx hb dX8_name_81 (by decide) ?_
        refine lv_iconst (v := (0 : Int32)) hx hb dX8_name_83 (by decide) ?_
        refine lv_iconst (v := (0 : Int32)) hx hb dX8_name_84 (by decide) ?_
        refine lv_iconst (v := (0 : Int32)) hx hb dX8_name_85 (by decide) ?_
        refine mm_VI ⟨hx, hb, hml, hown, hts⟩ (mmt_isWord l _ _ _ _ _ _ _ _ _ hw) (cwV 8 hts (lw_V q1474 q1476 qs67 q120 q1477) rfl rfl rfl cd_X8_isWord ⟨Nat.le_of_ble_eq_true rfl, Nat.le_of_ble_eq_true rfl⟩) hW (mm_recv hW) hS rfl hl.1 rfl (Nat.le_of_ble_eq_true rfl) dX8_name_86 (fun r8 σ7 H locs hw hW hS => ?_)
        obtain ⟨hz_r8, hw⟩ := hw
        refine lv_if_eq (tgt := 97) hx hb dX8_name_89 (by decide) (fun c16 => ?_) (fun c16 => ?_)
        · have hw := hw.1 c16
          refine lv_aload_n hx hb dX8_name_97 rfl (lv_at hl 0 rfl) ?_
          refine lv_bipush (v := (97 : Int32)) hx hb dX8_name_98 (by decide) ?_
          refine lv_bipush (v := (112 : Int32)) hx hb dX8_name_100 (by decide) ?_
          refine lv_bipush (v := (114 : Int32)) hx hb dX8_name_102 (by decide) ?_
          refine lv_bipush (v := (111 : Int32)) hx hb dX8_name_104 (by decide) ?_
          refine lv_bipush (v := (110 : Int32)) hx hb dX8_name_106 (by decide) ?_
          refine lv_iconst (v := (0 : Int32)) hx hb dX8_name_108 (by decide) ?_
          refine lv_iconst (v := (0 : Int32)) hx hb dX8_name_109 (by decide) ?_
          refine lv_iconst (v := (0 : Int32)) hx hb dX8_name_110 (by decide) ?_
          refine mm_VI ⟨hx, hb, hml, hown, hts⟩ (mmt_isWord l _ _ _ _ _ _ _ _ _ hw) (cwV 8 hts (lw_V q1474 q1476 qs67 q120 q1477) rfl rfl rfl cd_X8_isWord ⟨Nat.le_of_ble_eq_true rfl, Nat.le_of_ble_eq_true rfl⟩) hW (mm_recv hW) hS rfl hl.1 rfl (Nat.le_of_ble_eq_true rfl) dX8_name_111 (fun r10 σ9 H locs hw hW hS => ?_)
          obtain ⟨hz_r10, hw⟩ := hw
          refine lv_if_eq (tgt := 122) hx hb dX8_name_114 (by decide) (fun c15 => ?_) (fun c15 => ?_)
          · have hw := hw.1 c15
            refine lv_aload_n hx hb dX8_name_122 rfl (lv_at hl 0 rfl) ?_
            refine lv_bipush (v := (114 : Int32)) hx hb dX8_name_123 (by decide) ?_
            refine lv_bipush (v := (111 : Int32)) hx hb dX8_name_125 (by decide) ?_
            refine lv_bipush (v := (119 : Int32)) hx hb dX8_name_127 (by decide) ?_
            refine lv_iconst (v := (0 : Int32)) hx hb dX8_name_129 (by decide) ?_
            refine lv_iconst (v := (0 : Int32)) hx hb dX8_name_130 (by decide) ?_
            refine lv_iconst (v := (0 : Int32)) hx hb dX8_name_131 (by decide) ?_
            refine lv_iconst (v := (0 : Int32)) hx hb dX8_name_132 (by decide) ?_
            refine lv_iconst (v := (0 : Int32)) hx hb dX8_name_133 (by decide) ?_
            refine mm_VI ⟨hx, hb, hml, hown, hts⟩ (mmt_isWord l _ _ _ _ _ _ _ _ _ hw) (cwV 8 hts (lw_V q1474 q1476 qs67 q120 q1477) rfl rfl rfl cd_X8_isWord ⟨Nat.le_of_ble_eq_true rfl, Nat.le_of_ble_eq_true rfl⟩) hW (mm_recv hW) hS rfl hl.1 rfl (Nat.le_of_ble_eq_true rfl) dX8_name_134 (fun r12 σ11 H locs hw hW hS => ?_)
            obtain ⟨hz_r12, hw⟩ := hw
            refine lv_if_eq (tgt := 145) hx hb dX8_name_137 (by decide) (fun c14 => ?_) (fun c14 => ?_)
            · have hw := hw.1 c14
              refine lv_aload_n hx hb dX8_name_145 rfl (lv_at hl 0 rfl) ?_
              refine mm_VV ⟨hx, hb, hml, hown, hts⟩ (mmt_fail l _ hw) (cwV 0 hts (lw_V q1486 q1488 qs70 q120 q1489) rfl rfl rfl cd_X8_fail ⟨Nat.le_of_ble_eq_true rfl, Nat.le_of_ble_eq_true rfl⟩) hW (mm_recv hW) hS rfl hl.1 rfl (Nat.le_of_ble_eq_true rfl) dX8_name_146 (fun σ13 H locs hw hW hS => ?_)
              refine lv_iconst (v := (0 : Int32)) hx hb dX8_name_149 (by decide) ?_
              exact gg_iret (mm_mv D cl E A ad) C0 hW hS hw dX8_name_150
            · have hw := hw.2 c14
              refine lv_aload_n hx hb dX8_name_140 rfl (lv_at hl 0 rfl) ?_
              refine mm_geti hx hb hts hown hW 18 (by decide) q1289 dX8_name_141 ?_
              exact gg_iret (mm_mv D cl E A ad) C0 hW hS hw dX8_name_144
          · have hw := hw.2 c15
            refine lv_aload_n hx hb dX8_name_117 rfl (lv_at hl 0 rfl) ?_
            refine mm_geti hx hb hts hown hW 17 (by decide) q1288 dX8_name_118 ?_
            exact gg_iret (mm_mv D cl E A ad) C0 hW hS hw dX8_name_121
        · have hw := hw.2 c16
          refine lv_aload_n hx hb dX8_name_92 rfl (lv_at hl 0 rfl) ?_
          refine mm_geti hx hb hts hown hW 16 (by decide) q1287 dX8_name_93 ?_
          exact gg_iret (mm_mv D cl E A ad) C0 hW hS hw dX8_name_96
      · have hw := hw.2 c17
        refine lv_aload_n hx hb dX8_name_67 rfl (lv_at hl 0 rfl) ?_
        refine mm_geti hx hb hts hown hW 15 (by decide) q1286 dX8_name_68 ?_
        exact gg_iret (mm_mv D cl E A ad) C0 hW hS hw dX8_name_71
    · have hw := hw.2 c18
      refine lv_aload_n hx hb dX8_name_41 rfl (lv_at hl 0 rfl) ?_
      refine mm_geti hx hb hts hown hW 14 (by decide) q1285 dX8_name_42 ?_
      exact gg_iret (mm_mv D cl E A ad) C0 hW hS hw dX8_name_45
  · have hw := hw.2 c19
    refine lv_aload_n hx hb dX8_name_18 rfl (lv_at hl 0 rfl) ?_
    refine mm_geti hx hb hts hown hW 13 (by decide) q1284 dX8_name_19 ?_
    exact gg_iret (mm_mv D cl E A ad) C0 hW hS hw dX8_name_22
