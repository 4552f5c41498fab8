theorem cd_X8_glean : yX8_glean.cls = RX8 ∧ yX8_glean.cls ≠ "java/lang/invoke/MethodHandle" ∧ yX8_glean.cls ≠ "java/lang/invoke/VarHandle" ∧ (parseMethodDescriptor yX8_glean.desc).map (fun d => d.parameters.length) = some 2 := by decide +kernel
/-! GleanersForGapsModel.glean(II)I -/
def mmw_glean  (a1 : Int32) (a2 : Int32) (σ : gg_S) (Q : Int32 → gg_S → Prop) : Prop :=
    (mmw_isOne a1 σ (fun r2 σ1 => (((r2 = 0) → Q (-100 : Int32) σ1) ∧ (¬ (r2 = 0) → (mmw_isRow a2 σ1 (fun r4 σ3 => (((r4 = 0) → Q (-100 : Int32) σ3) ∧ (¬ (r4 = 0) → (mmw_gleans a1 a2 σ3 (fun r6 σ5 => Q r6 σ5))))))))))
abbrev mmr_glean : Room := { frames := 52, cells := 0, slots := 0, locals := 1207 }
set_option maxHeartbeats 4000000 in
set_option maxRecDepth 100000 in
theorem mmt_glean (l : Launch) {D : va_G} {cl : List vw_C} {E : ClassId × ClassId} {A : Nat → Prop} {ad : Nat → Nat}  (a1 : Int32) (a2 : Int32) (σ : gg_S) {Q : Int32 → gg_S → Prop} (hw : mmw_glean a1 a2 σ Q) :
    Met l yX8_glean (ws_ yX8_glean cX8_glean 3 (some .int)) mmr_glean (va_Pc [.ref (ad 0), .int a1, .int a2] (fun U => mm_W D cl E A ad σ U U.heap)) (va_Qi Q (fun u t => mm_W D cl E A ad u t t.heap) A) 0 0 A := by
  refine gg_entry (W0 := fun s H => mm_W D cl E A ad σ s H) (by decide) (Nat.le_of_ble_eq_true rfl) ?_
  intro p e s m args below meth c C0 hW ls hl
  have C0 : gg_C p s m args meth c RX8 cX8_glean 3 (some .int) := C0
  obtain ⟨hx, hb, hml, hown, hts, hr, hlocks⟩ := id C0
  have hl : lv_has ls 3 [(0, .ref (ad 0)), (1, .int a1), (2, .int a2)] := hl
  have hS : va_S A s.heap s.heap [] := va_S.rf
  unfold mmw_glean at hw
  refine lv_aload_n hx hb dX8_glean_0 rfl (lv_at hl 0 rfl) ?_
  refine lv_iload_n hx hb dX8_glean_1 rfl (lv_at hl 1 rfl) ?_
  refine mm_VI ⟨hx, hb, hml, hown, hts⟩ (mmt_isOne l _ _ hw) (cwV 1 hts (lw_V q1438 q1440 qs61 q120 q1441) rfl rfl rfl cd_X8_isOne ⟨Nat.le_of_ble_eq_true rfl, Nat.le_of_ble_eq_true rfl⟩) hW (mm_recv hW) hS rfl hl.1 rfl (Nat.le_of_ble_eq_true rfl) dX8_glean_2 (fun r2 σ1 H locs hw hW hS => ?_)
  obtain ⟨hz_r2, hw⟩ := hw
  refine lv_if_eq (tgt := 24) hx hb dX8_glean_5 (by decide) (fun c8 => ?_) (fun c8 => ?_)
  · have hw := hw.1 c8
    refine lv_bipush (v := (-100 : Int32)) hx hb dX8_glean_24 (by decide) ?_
    exact gg_iret (mm_mv D cl E A ad) C0 hW hS hw dX8_glean_26
  · have hw := hw.2 c8
    refine lv_iload_n hx hb dX8_glean_8 rfl (lv_at hl 2 rfl) ?_
    refine mm_SI ⟨hx, hb, hml, hown, hts⟩ (mmt_isRow l _ _ hw) (va_cwS 1 hts (lw_S q1418 q1419 q120 q1420) rfl rfl rfl cd_X8_isRow.2 ⟨Nat.le_of_ble_eq_true rfl, Nat.le_of_ble_eq_true rfl⟩) hW hS rfl hl.1 rfl (Nat.le_of_ble_eq_true rfl) dX8_glean_9 (fun r4 σ3 H locs hw hW hS => ?_)
    obtain ⟨hz_r4, hw⟩ := hw
    refine lv_if_eq (tgt := 24) hx hb dX8_glean_12 (by decide) (fun c7 => ?_) (fun c7 => ?_)
    · have hw := hw.1 c7
      refine lv_bipush (v := (-100 : Int32)) hx hb dX8_glean_24 (by decide) ?_
      exact gg_iret (mm_mv D cl E A ad) C0 hW hS hw dX8_glean_26
    · have hw := hw.2 c7
      refine lv_aload_n hx hb dX8_glean_15 rfl (lv_at hl 0 rfl) ?_
      refine lv_iload_n hx hb dX8_glean_16 rfl (lv_at hl 1 rfl) ?_
      refine lv_iload_n hx hb dX8_glean_17 rfl (lv_at hl 2 rfl) ?_
      refine mm_VI ⟨hx, hb, hml, hown, hts⟩ (mmt_gleans l _ _ _ hw) (cwV 2 hts (lw_V q1587 q1589 qs86 q120 q1590) rfl rfl rfl cd_X8_gleans ⟨Nat.le_of_ble_eq_true rfl, Nat.le_of_ble_eq_true rfl⟩) hW (mm_recv hW) hS rfl hl.1 rfl (Nat.le_of_ble_eq_true rfl) dX8_glean_18 (fun r6 σ5 H locs hw hW hS => ?_)
      refine lv_goto (tgt := 26) hx hb dX8_glean_21 (by decide) ?_
      exact gg_iret (mm_mv D cl E A ad) C0 hW hS hw dX8_glean_26
theorem cd_X8_isOrder : yX8_isOrder.cls = RX8 ∧ yX8_isOrder.cls ≠ "java/lang/invoke/MethodHandle" ∧ yX8_isOrder.cls ≠ "java/lang/invoke/VarHandle" ∧ (parseMethodDescriptor yX8_isOrder.desc).map (fun d => d.parameters.length) = some 1 := by decide +kernel
/-! GleanersForGapsModel.isOrder(I)Z -/
def mmw_isOrder_12  (Q : Int32 → gg_S → Prop)  : Nat → Int32 → Int32 → Int32 → Int32 → gg_S → Prop
  | 0, _, _, _, _, _ => False
  | n + 1, x1, x2, x3, x4, σ =>
    (((x4 < 0) → (((x3 = 0) → (((x2 = (((1 : Int32) <<< ((gg_g σ 0 12) &&& 31)) - (1 : Int32))) → Q (1 : Int32) σ) ∧ (¬ (x2 = (((1 : Int32) <<< ((gg_g σ 0 12) &&& 31)) - (1 : Int32))) → Q (0 : Int32) σ))) ∧ (¬ (x3 = 0) → Q (0 : Int32) σ))) ∧ (¬ (x4 < 0) → vp_in x4 5 ∧ (∀ σ3 : gg_S, σ3 = gg_s σ 11 x4.toNatClampNeg ((x3 - x3 / (10 : Int32) * (10 : Int32)) - (1 : Int32)) → (((x1 < 0) → Q (0 : Int32) σ3) ∧ (¬ (x1 < 0) → vp_in x4 5 ∧ (mmw_isOne (gg_g σ3 11 x4.toNatClampNeg) σ3 (fun r5 σ4 => (((r5 = 0) → Q (0 : Int32) σ4) ∧ (¬ (r5 = 0) → vp_in x4 5 ∧ mmw_isOrder_12 Q n x1 (x2 ||| ((1 : Int32) <<< ((gg_g σ4 11 x4.toNatClampNeg) &&& 31))) (x3 / (10 : Int32)) (x4 + (-1 : Int32)) σ4)))))))))
def mmw_isOrder  (a1 : Int32) (σ : gg_S) (Q : Int32 → gg_S → Prop) : Prop :=
    ∃ k9, mmw_isOrder_12 Q k9 a1 (0 : Int32) a1 ((gg_g σ 0 12) - (1 : Int32)) σ
abbrev mmr_isOrder : Room := { frames := 2, cells := 0, slots := 0, locals := 46 }
set_option maxHeartbeats 4000000 in
set_option maxRecDepth 100000 in
theorem mmk_isOrder_12 {p : Program} {l : Launch} {e : Env} {s : State} {m : MethodId} {args : Array Value} {below : List Frame} {meth : Method} {c : Code} {D : va_G} {cl : List vw_C} {E : ClassId × ClassId} {A : Nat → Prop} {ad : Nat → Nat} {Q : Int32 → gg_S → Prop}   (C0 : gg_C p s m args meth c RX8 cX8_isOrder 5 (some .boolean))  :
    ∀ n : Nat, ∀ (x1 : Int32) (x2 : Int32) (x3 : Int32) (x4 : Int32) (σ : gg_S) (H : Heap) (locs : List Loc) (ls : Array Slot), mmw_isOrder_12 Q n x1 x2 x3 x4 σ → mm_W D cl E A ad σ s H → va_S A s.heap H locs → lv_has ls 5 [(0, .ref (ad 0)), (1, .int x1), (2, .int x2), (3, .int x3), (4, .int x4)] → W p l e mmr_isOrder s m args below meth c H locs 0 0 (MQ below (va_Qi (fun r u => (r = 0 ∨ r = 1) ∧ Q r u) (fun u t => mm_W D cl E A ad u t t.heap) A) args s 0 0 A) (F0 m 12 ls []) := by
  obtain ⟨hx, hb, hml, hown, hts, hr, hlocks⟩ := id C0
  intro n
  induction n with
  | zero =>
    intro x1 x2 x3 x4 σ H locs ls hw hW hS hl
    exact absurd hw (by unfold mmw_isOrder_12; exact id)
  | succ n ih =>
    intro x1 x2 x3 x4 σ H locs ls hw hW hS hl
    unfold mmw_isOrder_12 at hw
    refine lv_iload hx hb dX8_isOrder_12 (lv_at hl 4 rfl) ?_
    refine lv_if_lt (tgt := 73) hx hb dX8_isOrder_14 (by decide) (fun c8 => ?_) (fun c8 => ?_)
    · have hw := hw.1 c8
      refine lv_iload_n hx hb dX8_isOrder_73 rfl (lv_at hl 3 rfl) ?_
      refine lv_if_ne (tgt := 93) hx hb dX8_isOrder_74 (by decide) (fun c2 => ?_) (fun c2 => ?_)
      · have hw := hw.2 c2
        refine lv_iconst (v := (0 : Int32)) hx hb dX8_isOrder_93 (by decide) ?_
        exact gg_zret (mm_mv D cl E A ad) C0 hW hS (Or.inl rfl) hw dX8_isOrder_94
      · have hw := hw.1 c2
        refine lv_iload_n hx hb dX8_isOrder_77 rfl (lv_at hl 2 rfl) ?_
        refine lv_iconst (v := (1 : Int32)) hx hb dX8_isOrder_78 (by decide) ?_
        refine lv_aload_n hx hb dX8_isOrder_79 rfl (lv_at hl 0 rfl) ?_
        refine mm_geti hx hb hts hown hW 12 (by decide) q1283 dX8_isOrder_80 ?_
        refine lv_ishl hx hb dX8_isOrder_83 ?_
        refine lv_iconst (v := (1 : Int32)) hx hb dX8_isOrder_84 (by decide) ?_
        refine lv_isub hx hb dX8_isOrder_85 ?_
        refine lv_icmp_ne (tgt := 93) hx hb dX8_isOrder_86 (by decide) (fun c1 => ?_) (fun c1 => ?_)
        · have hw := hw.2 c1
          refine lv_iconst (v := (0 : Int32)) hx hb dX8_isOrder_93 (by decide) ?_
          exact gg_zret (mm_mv D cl E A ad) C0 hW hS (Or.inl rfl) hw dX8_isOrder_94
        · have hw := hw.1 c1
          refine lv_iconst (v := (1 : Int32)) hx hb dX8_isOrder_89 (by decide) ?_
          refine lv_goto (tgt := 94) hx hb dX8_isOrder_90 (by decide) ?_
          exact gg_zret (mm_mv D cl E A ad) C0 hW hS (Or.inr rfl) hw dX8_isOrder_94
    · have hw := hw.2 c8
      refine lv_aload_n hx hb dX8_isOrder_17 rfl (lv_at hl 0 rfl) ?_
      refine mm_getr hx hb hts hown hW 31 11 (by decide) q1302 dX8_isOrder_18 ?_
      refine lv_iload hx hb dX8_isOrder_21 (lv_at hl 4 rfl) ?_
      refine lv_iload_n hx hb dX8_isOrder_23 rfl (lv_at hl 3 rfl) ?_
      refine lv_bipush (v := (10 : Int32)) hx hb dX8_isOrder_24 (by decide) ?_
      refine lv_irem hx hb dX8_isOrder_26 (by decide) ?_
      refine lv_iconst (v := (1 : Int32)) hx hb dX8_isOrder_27 (by decide) ?_
      refine lv_isub hx hb dX8_isOrder_28 ?_
      obtain ⟨hin, hw⟩ := hw
      refine mm_ast hx hb hW hS 10 (by decide) hin dX8_isOrder_29 (fun H locs hW hS => ?_)
      obtain ⟨σ3, eσ3⟩ : ∃ z, z = gg_s σ 11 x4.toNatClampNeg ((x3 - x3 / (10 : Int32) * (10 : Int32)) - (1 : Int32)) := ⟨_, rfl⟩
      rw [← eσ3] at hW
      have hw := hw σ3 eσ3
      refine lv_iload_n hx hb dX8_isOrder_30 rfl (lv_at hl 3 rfl) ?_
      refine lv_bipush (v := (10 : Int32)) hx hb dX8_isOrder_31 (by decide) ?_
      refine lv_idiv hx hb dX8_isOrder_33 (by decide) ?_
      refine lv_istore_n (lv' := [(3, .int (x3 / (10 : Int32))), (0, .ref (ad 0)), (1, .int x1), (2, .int x2), (4, .int x4)]) hx hb dX8_isOrder_34 rfl hl (by decide) rfl (fun ls hl => ?_)
      refine lv_iload_n hx hb dX8_isOrder_35 rfl (lv_at hl 2 rfl) ?_
      refine lv_if_lt (tgt := 53) hx hb dX8_isOrder_36 (by decide) (fun c7 => ?_) (fun c7 => ?_)
      · have hw := hw.1 c7
        refine lv_iconst (v := (0 : Int32)) hx hb dX8_isOrder_53 (by decide) ?_
        exact gg_zret (mm_mv D cl E A ad) C0 hW hS (Or.inl rfl) hw dX8_isOrder_54
      · have hw := hw.2 c7
        refine lv_aload_n hx hb dX8_isOrder_39 rfl (lv_at hl 1 rfl) ?_
        refine lv_aload_n hx hb dX8_isOrder_40 rfl (lv_at hl 1 rfl) ?_
        refine mm_getr hx hb hts hown hW 31 11 (by decide) q1302 dX8_isOrder_41 ?_
        refine lv_iload hx hb dX8_isOrder_44 (lv_at hl 4 rfl) ?_
        obtain ⟨hin, hw⟩ := hw
        refine mm_ald hx hb hW 10 (by decide) hin dX8_isOrder_46 ?_
        refine mm_VI ⟨hx, hb, hml, hown, hts⟩ (mmt_isOne l _ _ hw) (cwV 1 hts (lw_V q1438 q1440 qs61 q120 q1441) rfl rfl rfl cd_X8_isOne ⟨Nat.le_of_ble_eq_true rfl, Nat.le_of_ble_eq_true rfl⟩) hW (mm_recv hW) hS rfl hl.1 rfl (Nat.le_of_ble_eq_true rfl) dX8_isOrder_47 (fun r5 σ4 H locs hw hW hS => ?_)
        obtain ⟨hz_r5, hw⟩ := hw
        refine lv_if_ne (tgt := 55) hx hb dX8_isOrder_50 (by decide) (fun c6 => ?_) (fun c6 => ?_)
        · have hw := hw.2 c6
          refine lv_iload_n hx hb dX8_isOrder_55 rfl (lv_at hl 3 rfl) ?_
          refine lv_iconst (v := (1 : Int32)) hx hb dX8_isOrder_56 (by decide) ?_
          refine lv_aload_n hx hb dX8_isOrder_57 rfl (lv_at hl 1 rfl) ?_
          refine mm_getr hx hb hts hown hW 31 11 (by decide) q1302 dX8_isOrder_58 ?_
          refine lv_iload hx hb dX8_isOrder_61 (lv_at hl 4 rfl) ?_
          obtain ⟨hin, hw⟩ := hw
          refine mm_ald hx hb hW 10 (by decide) hin dX8_isOrder_63 ?_
          refine lv_ishl hx hb dX8_isOrder_64 ?_
          refine lv_ior hx hb dX8_isOrder_65 ?_
          refine lv_istore_n (lv' := [(2, .int (x2 ||| ((1 : Int32) <<< ((gg_g σ4 11 x4.toNatClampNeg) &&& 31)))), (3, .int (x3 / (10 : Int32))), (0, .ref (ad 0)), (1, .int x1), (4, .int x4)]) hx hb dX8_isOrder_66 rfl hl (by decide) rfl (fun ls hl => ?_)
          refine lv_iinc (v := (x4 + (-1 : Int32))) (lv' := [(4, .int (x4 + (-1 : Int32))), (2, .int (x2 ||| ((1 : Int32) <<< ((gg_g σ4 11 x4.toNatClampNeg) &&& 31)))), (3, .int (x3 / (10 : Int32))), (0, .ref (ad 0)), (1, .int x1)]) hx hb dX8_isOrder_67 hl (k := 4) rfl rfl (by decide) rfl (fun ls hl => ?_)
          refine lv_goto (tgt := 12) hx hb dX8_isOrder_70 (by decide) ?_
          exact ih x1 (x2 ||| ((1 : Int32) <<< ((gg_g σ4 11 x4.toNatClampNeg) &&& 31))) (x3 / (10 : Int32)) (x4 + (-1 : Int32)) σ4 _ _ _ hw hW hS (lv_sub hl [3, 4, 1, 2, 0] rfl)
        · have hw := hw.1 c6
          refine lv_iconst (v := (0 : Int32)) hx hb dX8_isOrder_53 (by decide) ?_
          exact gg_zret (mm_mv D cl E A ad) C0 hW hS (Or.inl rfl) hw dX8_isOrder_54
set_option maxHeartbeats 4000000 in
set_option maxRecDepth 100000 in
theorem mmt_isOrder (l : Launch) {D : va_G} {cl : List vw_C} {E : ClassId × ClassId} {A : Nat → Prop} {ad : Nat → Nat}  (a1 : Int32) (σ : gg_S) {Q : Int32 → gg_S → Prop} (hw : mmw_isOrder a1 σ Q) :
    Met l yX8_isOrder (ws_ yX8_isOrder cX8_isOrder 5 (some .boolean)) mmr_isOrder (va_Pc [.ref (ad 0), .int a1] (fun U => mm_W D cl E A ad σ U U.heap)) (va_Qi (fun r u => (r = 0 ∨ r = 1) ∧ Q r u) (fun u t => mm_W D cl E A ad u t t.heap) A) 0 0 A := by
  refine gg_entry (W0 := fun s H => mm_W D cl E A ad σ s H) (by decide) (Nat.le_of_ble_eq_true rfl) ?_
  intro p e s m args below meth c C0 hW ls hl
  have C0 : gg_C p s m args meth c RX8 cX8_isOrder 5 (some .boolean) := C0
  obtain ⟨hx, hb, hml, hown, hts, hr, hlocks⟩ := id C0
  have hl : lv_has ls 5 [(0, .ref (ad 0)), (1, .int a1)] := hl
  have hS : va_S A s.heap s.heap [] := va_S.rf
  unfold mmw_isOrder at hw
  refine lv_iconst (v := (0 : Int32)) hx hb dX8_isOrder_0 (by decide) ?_
  refine lv_istore_n (lv' := [(2, .int (0 : Int32)), (0, .ref (ad 0)), (1, .int a1)]) hx hb dX8_isOrder_1 rfl hl (by decide) rfl (fun ls hl => ?_)
  refine lv_iload_n hx hb dX8_isOrder_2 rfl (lv_at hl 2 rfl) ?_
  refine lv_istore_n (lv' := [(3, .int a1), (2, .int (0 : Int32)), (0, .ref (ad 0)), (1, .int a1)]) hx hb dX8_isOrder_3 rfl hl (by decide) rfl (fun ls hl => ?_)
  refine lv_aload_n hx hb dX8_isOrder_4 rfl (lv_at hl 2 rfl) ?_
  refine mm_geti hx hb hts hown hW 12 (by decide) q1283 dX8_isOrder_5 ?_
  refine lv_iconst (v := (1 : Int32)) hx hb dX8_isOrder_8 (by decide) ?_
  refine lv_isub hx hb dX8_isOrder_9 ?_
  refine lv_istore (lv' := [(4, .int ((gg_g σ 0 12) - (1 : Int32))), (3, .int a1), (2, .int (0 : Int32)), (0, .ref (ad 0)), (1, .int a1)]) hx hb dX8_isOrder_10 hl (by decide) rfl (fun ls hl => ?_)
  obtain ⟨n9, hw⟩ := hw
  exact mmk_isOrder_12  C0   n9 a1 (0 : Int32) a1 ((gg_g σ 0 12) - (1 : Int32)) σ _ _ _ hw hW hS (lv_sub hl [3, 4, 2, 1, 0] rfl)
theorem cd_X8_go : yX8_go.cls = RX8 ∧ yX8_go.cls ≠ "java/lang/invoke/MethodHandle" ∧ yX8_go.cls ≠ "java/lang/invoke/VarHandle" ∧ (parseMethodDescriptor yX8_go.desc).map (fun d => d.parameters.length) = some 2 := by decide +kernel
/-! GleanersForGapsModel.go(II)I -/
def mmw_go_20  (Q : Int32 → gg_S → Prop)  : Nat → Int32 → Int32 → gg_S → Prop
  | 0, _, _, _ => False
  | n + 1, x1, x3, σ =>
    ((((gg_g σ 0 12) ≤ x3) → (mmw_leftOf x1 σ (fun r6 σ5 => Q r6 σ5))) ∧ (¬ ((gg_g σ 0 12) ≤ x3) → vp_in x3 5 ∧ (mmw_gleans (gg_g σ 11 x3.toNatClampNeg) x1 σ (fun r8 σ7 => mmw_go_20 Q n x1 (x3 + (1 : Int32)) σ7))))
def mmw_go  (a1 : Int32) (a2 : Int32) (σ : gg_S) (Q : Int32 → gg_S → Prop) : Prop :=
    (mmw_isRow a1 σ (fun r2 σ1 => (((r2 = 0) → Q (-2 : Int32) σ1) ∧ (¬ (r2 = 0) → (mmw_isOrder a2 σ1 (fun r4 σ3 => (((r4 = 0) → Q (-2 : Int32) σ3) ∧ (¬ (r4 = 0) → ∃ k9, mmw_go_20 Q k9 a1 (0 : Int32) σ3))))))))
abbrev mmr_go : Room := { frames := 52, cells := 0, slots := 0, locals := 1207 }
set_option maxHeartbeats 4000000 in
set_option maxRecDepth 100000 in
theorem mmk_go_20 {p : Program} {l : Launch} {e : Env} {s : State} {m : MethodId} {args : Array Value} {below : List Frame} {meth : Method} {c : Code} {D : va_G} {cl : List vw_C} {E : ClassId × ClassId} {A : Nat → Prop} {ad : Nat → Nat} {Q : Int32 → gg_S → Prop}   (C0 : gg_C p s m args meth c RX8 cX8_go 4 (some .int))  :
    ∀ n : Nat, ∀ (x1 : Int32) (x3 : Int32) (σ : gg_S) (H : Heap) (locs : List Loc) (ls : Array Slot), mmw_go_20 Q n x1 x3 σ → mm_W D cl E A ad σ s H → va_S A s.heap H locs → lv_has ls 4 [(0, .ref (ad 0)), (1, .int x1), (3, .int x3)] → W p l e mmr_go s m args below meth c H locs 0 0 (MQ below (va_Qi Q (fun u t => mm_W D cl E A ad u t t.heap) A) args s 0 0 A) (F0 m 20 ls []) := by
  obtain ⟨hx, hb, hml, hown, hts, hr, hlocks⟩ := id C0
  intro n
  induction n with
  | zero =>
    intro x1 x3 σ H locs ls hw hW hS hl
    exact absurd hw (by unfold mmw_go_20; exact id)
  | succ n ih =>
    intro x1 x3 σ H locs ls hw hW hS hl
    unfold mmw_go_20 at hw
    refine lv_iload_n hx hb dX8_go_20 rfl (lv_at hl 2 rfl) ?_
    refine lv_aload_n hx hb dX8_go_21 rfl (lv_at hl 0 rfl) ?_
    refine mm_geti hx hb hts hown hW 12 (by decide) q1283 dX8_go_22 ?_
    refine lv_icmp_ge (tgt := 46) hx hb dX8_go_25 (by decide) (fun c9 => ?_) (fun c9 => ?_)
    · have hw := hw.1 c9
      refine lv_aload_n hx hb dX8_go_46 rfl (lv_at hl 0 rfl) ?_
      refine lv_iload_n hx hb dX8_go_47 rfl (lv_at hl 1 rfl) ?_
      refine mm_VI ⟨hx, hb, hml, hown, hts⟩ (mmt_leftOf l _ _ hw) (cwV 1 hts (lw_V q1426 q1428 qs60 q120 q1429) rfl rfl rfl cd_X8_leftOf ⟨Nat.le_of_ble_eq_true rfl, Nat.le_of_ble_eq_true rfl⟩) hW (mm_recv hW) hS rfl hl.1 rfl (Nat.le_of_ble_eq_true rfl) dX8_go_48 (fun r6 σ5 H locs hw hW hS => ?_)
      exact gg_iret (mm_mv D cl E A ad) C0 hW hS hw dX8_go_51
    · have hw := hw.2 c9
      refine lv_aload_n hx hb dX8_go_28 rfl (lv_at hl 0 rfl) ?_
      refine lv_aload_n hx hb dX8_go_29 rfl (lv_at hl 0 rfl) ?_
      refine mm_getr hx hb hts hown hW 31 11 (by decide) q1302 dX8_go_30 ?_
      refine lv_iload_n hx hb dX8_go_33 rfl (lv_at hl 2 rfl) ?_
      obtain ⟨hin, hw⟩ := hw
      refine mm_ald hx hb hW 10 (by decide) hin dX8_go_34 ?_
      refine lv_iload_n hx hb dX8_go_35 rfl (lv_at hl 1 rfl) ?_
      refine mm_VI ⟨hx, hb, hml, hown, hts⟩ (mmt_gleans l _ _ _ hw) (cwV 2 hts (lw_V q1587 q1589 qs86 q120 q1590) rfl rfl rfl cd_X8_gleans ⟨Nat.le_of_ble_eq_true rfl, Nat.le_of_ble_eq_true rfl⟩) hW (mm_recv hW) hS rfl hl.1 rfl (Nat.le_of_ble_eq_true rfl) dX8_go_36 (fun r8 σ7 H locs hw hW hS => ?_)
      refine lv_pop hx hb dX8_go_39 rfl ?_
      refine lv_iinc (v := (x3 + (1 : Int32))) (lv' := [(3, .int (x3 + (1 : Int32))), (0, .ref (ad 0)), (1, .int x1)]) hx hb dX8_go_40 hl (k := 2) rfl rfl (by decide) rfl (fun ls hl => ?_)
      refine lv_goto (tgt := 20) hx hb dX8_go_43 (by decide) ?_
      exact ih x1 (x3 + (1 : Int32)) σ7 _ _ _ hw hW hS (lv_sub hl [1, 2, 0] rfl)
set_option maxHeartbeats 4000000 in
set_option maxRecDepth 100000 in
theorem mmt_go (l : Launch) {D : va_G} {cl : List vw_C} {E : ClassId × ClassId} {A : Nat → Prop} {ad : Nat → Nat}  (a1 : Int32) (a2 : Int32) (σ : gg_S) {Q : Int32 → gg_S → Prop} (hw : mmw_go a1 a2 σ Q) :
    Met l yX8_go (ws_ yX8_go cX8_go 4 (some .int)) mmr_go (va_Pc [.ref (ad 0), .int a1, .int a2] (fun U => mm_W D cl E A ad σ U U.heap)) (va_Qi Q (fun u t => mm_W D cl E A ad u t t.heap) A) 0 0 A := by
  refine gg_entry (W0 := fun s H => mm_W D cl E A ad σ s H) (by decide) (Nat.le_of_ble_eq_true rfl) ?_
  intro p e s m args below meth c C0 hW ls hl
  have C0 : gg_C p s m args meth c RX8 cX8_go 4 (some .int) := C0
  obtain ⟨hx, hb, hml, hown, hts, hr, hlocks⟩ := id C0
  have hl : lv_has ls 4 [(0, .ref (ad 0)), (1, .int a1), (2, .int a2)] := hl
  have hS : va_S A s.heap s.heap [] := va_S.rf
  unfold mmw_go at hw
  refine lv_iload_n hx hb dX8_go_0 rfl (lv_at hl 1 rfl) ?_
  refine mm_SI ⟨hx, hb, hml, hown, hts⟩ (mmt_isRow l _ _ hw) (va_cwS 1 hts (lw_S q1418 q1419 q120 q1420) rfl rfl rfl cd_X8_isRow.2 ⟨Nat.le_of_ble_eq_true rfl, Nat.le_of_ble_eq_true rfl⟩) hW hS rfl hl.1 rfl (Nat.le_of_ble_eq_true rfl) dX8_go_1 (fun r2 σ1 H locs hw hW hS => ?_)
  obtain ⟨hz_r2, hw⟩ := hw
  refine lv_if_eq (tgt := 15) hx hb dX8_go_4 (by decide) (fun c11 => ?_) (fun c11 => ?_)
  · have hw := hw.1 c11
    refine lv_bipush (v := (-2 : Int32)) hx hb dX8_go_15 (by decide) ?_
    exact gg_iret (mm_mv D cl E A ad) C0 hW hS hw dX8_go_17
  · have hw := hw.2 c11
    refine lv_aload_n hx hb dX8_go_7 rfl (lv_at hl 0 rfl) ?_
    refine lv_iload_n hx hb dX8_go_8 rfl (lv_at hl 2 rfl) ?_
    refine mm_VI ⟨hx, hb, hml, hown, hts⟩ (mmt_isOrder l _ _ hw) (cwV 1 hts (lw_V q1599 q1601 qs88 q120 q1602) rfl rfl rfl cd_X8_isOrder ⟨Nat.le_of_ble_eq_true rfl, Nat.le_of_ble_eq_true rfl⟩) hW (mm_recv hW) hS rfl hl.1 rfl (Nat.le_of_ble_eq_true rfl) dX8_go_9 (fun r4 σ3 H locs hw hW hS => ?_)
    obtain ⟨hz_r4, hw⟩ := hw
    refine lv_if_ne (tgt := 18) hx hb dX8_go_12 (by decide) (fun c10 => ?_) (fun c10 => ?_)
    · have hw := hw.2 c10
      refine lv_iconst (v := (0 : Int32)) hx hb dX8_go_18 (by decide) ?_
      refine lv_istore_n (lv' := [(3, .int (0 : Int32)), (0, .ref (ad 0)), (1, .int a1), (2, .int a2)]) hx hb dX8_go_19 rfl hl (by decide) rfl (fun ls hl => ?_)
      obtain ⟨n9, hw⟩ := hw
      exact mmk_go_20  C0   n9 a1 (0 : Int32) σ3 _ _ _ hw hW hS (lv_sub hl [1, 2, 0] rfl)
    · have hw := hw.1 c10
      refine lv_bipush (v := (-2 : Int32)) hx hb dX8_go_15 (by decide) ?_
      exact gg_iret (mm_mv D cl E A ad) C0 hW hS hw dX8_go_17
theorem cd_X8_gapsAll : yX8_gapsAll.cls = RX8 ∧ yX8_gapsAll.cls ≠ "java/lang/invoke/MethodHandle" ∧ yX8_gapsAll.cls ≠ "java/lang/invoke/VarHandle" ∧ (parseMethodDescriptor yX8_gapsAll.desc).map (fun d => d.parameters.length) = some 0 := by decide +kernel
/-! GleanersForGapsModel.gapsAll()I -/
def mmw_gapsAll   (σ : gg_S) (Q : Int32 → gg_S → Prop) : Prop :=
    (mmw_leftOf (0 : Int32) σ (fun r2 σ1 => (mmw_leftOf (1 : Int32) σ1 (fun r4 σ3 => (mmw_leftOf (2 : Int32) σ3 (fun r6 σ5 => (mmw_leftOf (3 : Int32) σ5 (fun r8 σ7 => Q (((r2 + r4) + r6) + r8) σ7))))))))
abbrev mmr_gapsAll : Room := { frames := 2, cells := 0, slots := 0, locals := 43 }
set_option maxHeartbeats 4000000 in
set_option maxRecDepth 100000 in
theorem mmt_gapsAll (l : Launch) {D : va_G} {cl : List vw_C} {E : ClassId × ClassId} {A : Nat → Prop} {ad : Nat → Nat}   (σ : gg_S) {Q : Int32 → gg_S → Prop} (hw : mmw_gapsAll σ Q) :
    Met l yX8_gapsAll (ws_ yX8_gapsAll cX8_gapsAll 1 (some .int)) mmr_gapsAll (va_Pc [.ref (ad 0)] (fun U => mm_W D cl E A ad σ U U.heap)) (va_Qi Q (fun u t => mm_W D cl E A ad u t t.heap) A) 0 0 A := by
  refine gg_entry (W0 := fun s H => mm_W D cl E A ad σ s H) (by decide) (Nat.le_of_ble_eq_true rfl) ?_
  intro p e s m args below meth c C0 hW ls hl
  have C0 : gg_C p s m args meth c RX8 cX8_gapsAll 1 (some .int) := C0
  obtain ⟨hx, hb, hml, hown, hts, hr, hlocks⟩ := id C0
  have hl : lv_has ls 1 [(0, .ref (ad 0))] := hl
  have hS : va_S A s.heap s.heap [] := va_S.rf
  unfold mmw_gapsAll at hw
  refine lv_aload_n hx hb dX8_gapsAll_0 rfl (lv_at hl 0 rfl) ?_
  refine lv_iconst (v := (0 : Int32)) hx hb dX8_gapsAll_1 (by decide) ?_
  refine mm_VI ⟨hx, hb, hml, hown, hts⟩ (mmt_leftOf l _ _ hw) (cwV 1 hts (lw_V q1426 q1428 qs60 q120 q1429) rfl rfl rfl cd_X8_leftOf ⟨Nat.le_of_ble_eq_true rfl, Nat.le_of_ble_eq_true rfl⟩) hW (mm_recv hW) hS rfl hl.1 rfl (Nat.le_of_ble_eq_true rfl) dX8_gapsAll_2 (fun r2 σ1 H locs hw hW hS => ?_)
  refine lv_aload_n hx hb dX8_gapsAll_5 rfl (lv_at hl 0 rfl) ?_
  refine lv_iconst (v := (1 : Int32)) hx hb dX8_gapsAll_6 (by decide) ?_
  refine mm_VI ⟨hx, hb, hml, hown, hts⟩ (mmt_leftOf l _ _ hw) (cwV 1 hts (lw_V q1426 q1428 qs60 q120 q1429) rfl rfl rfl cd_X8_leftOf ⟨Nat.le_of_ble_eq_true rfl, Nat.le_of_ble_eq_true rfl⟩) hW (mm_recv hW) hS rfl hl.1 rfl (Nat.le_of_ble_eq_true rfl) dX8_gapsAll_7 (fun r4 σ3 H locs hw hW hS => ?_)
  refine lv_iadd hx hb dX8_gapsAll_10 ?_
  refine lv_aload_n hx hb dX8_gapsAll_11 rfl (lv_at hl 0 rfl) ?_
  refine lv_iconst (v := (2 : Int32)) hx hb dX8_gapsAll_12 (by decide) ?_
  refine mm_VI ⟨hx, hb, hml, hown, hts⟩ (mmt_leftOf l _ _ hw) (cwV 1 hts (lw_V q1426 q1428 qs60 q120 q1429) rfl rfl rfl cd_X8_leftOf ⟨Nat.le_of_ble_eq_true rfl, Nat.le_of_ble_eq_true rfl⟩) hW (mm_recv hW) hS rfl hl.1 rfl (Nat.le_of_ble_eq_true rfl) dX8_gapsAll_13 (fun r6 σ5 H locs hw hW hS => ?_)
  refine lv_iadd hx hb dX8_gapsAll_16 ?_
  refine lv_aload_n hx hb dX8_gapsAll_17 rfl (lv_at hl 0 rfl) ?_
  refine lv_iconst (v := (3 : Int32)) hx hb dX8_gapsAll_18 (by decide) ?_
  refine mm_VI ⟨hx, hb, hml, hown, hts⟩ (mmt_leftOf l _ _ hw) (cwV 1 hts (lw_V q1426 q1428 qs60 q120 q1429) rfl rfl rfl cd_X8_leftOf ⟨Nat.le_of_ble_eq_true rfl, Nat.le_of_ble_eq_true rfl⟩) hW (mm_recv hW) hS rfl hl.1 rfl (Nat.le_of_ble_eq_true rfl) dX8_gapsAll_19 (fun r8 σ7 H locs hw hW hS => ?_)
  refine lv_iadd hx hb dX8_gapsAll_22 ?_
  exact gg_iret (mm_mv D cl E A ad) C0 hW hS hw dX8_gapsAll_23
theorem cd_X8_passes : yX8_passes.cls = RX8 ∧ yX8_passes.cls ≠ "java/lang/invoke/MethodHandle" ∧ yX8_passes.cls ≠ "java/lang/invoke/VarHandle" ∧ (parseMethodDescriptor yX8_passes.desc).map (fun d => d.parameters.length) = some 0 := by decide +kernel
/-! GleanersForGapsModel.passes()V -/
def mmw_passes_85  (Q : gg_S → Prop)  : Nat → Int32 → gg_S → Prop
  | 0, _, _ => False
  | n + 1, x1, σ =>
    ((((4 : Int32) ≤ x1) → (∀ σ1 : gg_S, σ1 = gg_s σ 0 7 ((gg_g σ 0 7) + (1 : Int32)) → Q σ1)) ∧ (¬ ((4 : Int32) ≤ x1) → vp_in x1 5 ∧ vp_in x1 4 ∧ (mmw_within ((gg_g σ 5 x1.toNatClampNeg) + (gg_g σ 13 x1.toNatClampNeg)) (0 : Int32) (24 : Int32) σ (fun r3 σ2 => vp_in x1 5 ∧ (∀ σ4 : gg_S, σ4 = gg_s σ2 5 x1.toNatClampNeg r3 → mmw_passes_85 Q n (x1 + (1 : Int32)) σ4)))))
def mmw_passes_53  (Q : gg_S → Prop)  : Nat → Int32 → gg_S → Prop
  | 0, _, _ => False
  | n + 1, x1, σ =>
    ((((gg_g σ 0 12) ≤ x1) → ∃ k9, mmw_passes_85 Q k9 (0 : Int32) σ) ∧ (¬ ((gg_g σ 0 12) ≤ x1) → vp_in x1 5 ∧ vp_in (((2 : Int32) * x1) + (1 : Int32)) 10 ∧ (∀ σ6 : gg_S, σ6 = gg_s σ 7 (((2 : Int32) * x1) + (1 : Int32)).toNatClampNeg (gg_g σ 12 x1.toNatClampNeg) → mmw_passes_53 Q n (x1 + (1 : Int32)) σ6)))
def mmw_passes_29  (Q : gg_S → Prop)  : Nat → Int32 → gg_S → Prop
  | 0, _, _ => False
  | n + 1, x1, σ =>
    ((((4 : Int32) ≤ x1) → ∃ k9, mmw_passes_53 Q k9 (0 : Int32) σ) ∧ (¬ ((4 : Int32) ≤ x1) → (mmw_shakenOf x1 σ (fun r9 σ8 => vp_in x1 4 ∧ (∀ σ10 : gg_S, σ10 = gg_s σ8 13 x1.toNatClampNeg r9 → mmw_passes_29 Q n (x1 + (1 : Int32)) σ10)))))
def mmw_passes_2  (Q : gg_S → Prop)  : Nat → Int32 → gg_S → Prop
  | 0, _, _ => False
  | n + 1, x1, σ =>
    ((((gg_g σ 0 12) ≤ x1) → ∃ k9, mmw_passes_29 Q k9 (0 : Int32) σ) ∧ (¬ ((gg_g σ 0 12) ≤ x1) → (mmw_keepsOf x1 σ (fun r13 σ12 => vp_in x1 5 ∧ (∀ σ14 : gg_S, σ14 = gg_s σ12 12 x1.toNatClampNeg r13 → mmw_passes_2 Q n (x1 + (1 : Int32)) σ14)))))
def mmw_passes   (σ : gg_S) (Q : gg_S → Prop) : Prop :=
    ∃ k9, mmw_passes_2 Q k9 (0 : Int32) σ
abbrev mmr_passes : Room := { frames := 51, cells := 0, slots := 0, locals := 1177 }
set_option maxHeartbeats 4000000 in
set_option maxRecDepth 100000 in
theorem mmk_passes_85 {p : Program} {l : Launch} {e : Env} {s : State} {m : MethodId} {args : Array Value} {below : List Frame} {meth : Method} {c : Code} {D : va_G} {cl : List vw_C} {E : ClassId × ClassId} {A : Nat → Prop} {ad : Nat → Nat} {Q : gg_S → Prop}   (C0 : gg_C p s m args meth c RX8 cX8_passes 2 none)  :
    ∀ n : Nat, ∀ (x1 : Int32) (σ : gg_S) (H : Heap) (locs : List Loc) (ls : Array Slot), mmw_passes_85 Q n x1 σ → mm_W D cl E A ad σ s H → va_S A s.heap H locs → lv_has ls 2 [(0, .ref (ad 0)), (1, .int x1)] → W p l e mmr_passes s m args below meth c H locs 0 0 (MQ below (va_Qv Q (fun u t => mm_W D cl E A ad u t t.heap) A) args s 0 0 A) (F0 m 85 ls []) := by
  obtain ⟨hx, hb, hml, hown, hts, hr, hlocks⟩ := id C0
  intro n
  induction n with
  | zero =>
    intro x1 σ H locs ls hw hW hS hl
    exact absurd hw (by unfold mmw_passes_85; exact id)
  | succ n ih =>
    intro x1 σ H locs ls hw hW hS hl
    unfold mmw_passes_85 at hw
    refine lv_iload_n hx hb dX8_passes_85 rfl (lv_at hl 1 rfl) ?_
    refine lv_iconst (v := (4 : Int32)) hx hb dX8_passes_86 (by decide) ?_
    refine lv_icmp_ge (tgt := 121) hx hb dX8_passes_87 (by decide) (fun c5 => ?_) (fun c5 => ?_)
    · have hw := hw.1 c5
      refine lv_aload_n hx hb dX8_passes_121 rfl (lv_at hl 0 rfl) ?_
      refine lv_dup hx hb dX8_passes_122 rfl ?_
      refine mm_geti hx hb hts hown hW 7 (by decide) q1278 dX8_passes_123 ?_
      refine lv_iconst (v := (1 : Int32)) hx hb dX8_passes_126 (by decide) ?_
      refine lv_iadd hx hb dX8_passes_127 ?_
      refine mm_puti hx hb hts hown hW hS 7 (by decide) q1278 rfl rfl rfl dX8_passes_128 (fun H locs hW hS => ?_)
      obtain ⟨σ1, eσ1⟩ : ∃ z, z = gg_s σ 0 7 ((gg_g σ 0 7) + (1 : Int32)) := ⟨_, rfl⟩
      rw [← eσ1] at hW
      have hw := hw σ1 eσ1
      exact gg_vret (mm_mv D cl E A ad) C0 hW hS hw dX8_passes_131
    · have hw := hw.2 c5
      refine lv_aload_n hx hb dX8_passes_90 rfl (lv_at hl 0 rfl) ?_
      refine mm_getr hx hb hts hown hW 9 5 (by decide) q1280 dX8_passes_91 ?_
      refine lv_iload_n hx hb dX8_passes_94 rfl (lv_at hl 1 rfl) ?_
      refine lv_aload_n hx hb dX8_passes_95 rfl (lv_at hl 0 rfl) ?_
      refine mm_getr hx hb hts hown hW 9 5 (by decide) q1280 dX8_passes_96 ?_
      refine lv_iload_n hx hb dX8_passes_99 rfl (lv_at hl 1 rfl) ?_
      obtain ⟨hin, hw⟩ := hw
      refine mm_ald hx hb hW 4 (by decide) hin dX8_passes_100 ?_
      refine lv_aload_n hx hb dX8_passes_101 rfl (lv_at hl 0 rfl) ?_
      refine mm_getr hx hb hts hown hW 33 13 (by decide) q1304 dX8_passes_102 ?_
      refine lv_iload_n hx hb dX8_passes_105 rfl (lv_at hl 1 rfl) ?_
      obtain ⟨hin, hw⟩ := hw
      refine mm_ald hx hb hW 12 (by decide) hin dX8_passes_106 ?_
      refine lv_iadd hx hb dX8_passes_107 ?_
      refine lv_iconst (v := (0 : Int32)) hx hb dX8_passes_108 (by decide) ?_
      refine lv_bipush (v := (24 : Int32)) hx hb dX8_passes_109 (by decide) ?_
      refine mm_SI ⟨hx, hb, hml, hown, hts⟩ (mmt_within l _ _ _ _ hw) (va_cwS 3 hts (lw_S q1528 q1529 q120 q1530) rfl rfl rfl cd_X8_within.2 ⟨Nat.le_of_ble_eq_true rfl, Nat.le_of_ble_eq_true rfl⟩) hW hS rfl hl.1 rfl (Nat.le_of_ble_eq_true rfl) dX8_passes_111 (fun r3 σ2 H locs hw hW hS => ?_)
      obtain ⟨hin, hw⟩ := hw
      refine mm_ast hx hb hW hS 4 (by decide) hin dX8_passes_114 (fun H locs hW hS => ?_)
      obtain ⟨σ4, eσ4⟩ : ∃ z, z = gg_s σ2 5 x1.toNatClampNeg r3 := ⟨_, rfl⟩
      rw [← eσ4] at hW
      have hw := hw σ4 eσ4
      refine lv_iinc (v := (x1 + (1 : Int32))) (lv' := [(1, .int (x1 + (1 : Int32))), (0, .ref (ad 0))]) hx hb dX8_passes_115 hl (k := 1) rfl rfl (by decide) rfl (fun ls hl => ?_)
      refine lv_goto (tgt := 85) hx hb dX8_passes_118 (by decide) ?_
      exact ih (x1 + (1 : Int32)) σ4 _ _ _ hw hW hS (lv_sub hl [1, 0] rfl)
set_option maxHeartbeats 4000000 in
set_option maxRecDepth 100000 in
theorem mmk_passes_53 {p : Program} {l : Launch} {e : Env} {s : State} {m : MethodId} {args : Array Value} {below : List Frame} {meth : Method} {c : Code} {D : va_G} {cl : List vw_C} {E : ClassId × ClassId} {A : Nat → Prop} {ad : Nat → Nat} {Q : gg_S → Prop}   (C0 : gg_C p s m args meth c RX8 cX8_passes 2 none)  :
    ∀ n : Nat, ∀ (x1 : Int32) (σ : gg_S) (H : Heap) (locs : List Loc) (ls : Array Slot), mmw_passes_53 Q n x1 σ → mm_W D cl E A ad σ s H → va_S A s.heap H locs → lv_has ls 2 [(0, .ref (ad 0)), (1, .int x1)] → W p l e mmr_passes s m args below meth c H locs 0 0 (MQ below (va_Qv Q (fun u t => mm_W D cl E A ad u t t.heap) A) args s 0 0 A) (F0 m 53 ls []) := by
  obtain ⟨hx, hb, hml, hown, hts, hr, hlocks⟩ := id C0
  intro n
  induction n with
  | zero =>
    intro x1 σ H locs ls hw hW hS hl
    exact absurd hw (by unfold mmw_passes_53; exact id)
  | succ n ih =>
    intro x1 σ H locs ls hw hW hS hl
    unfold mmw_passes_53 at hw
    refine lv_iload_n hx hb dX8_passes_53 rfl (lv_at hl 1 rfl) ?_
    refine lv_aload_n hx hb dX8_passes_54 rfl (lv_at hl 0 rfl) ?_
    refine mm_geti hx hb hts hown hW 12 (by decide) q1283 dX8_passes_55 ?_
    refine lv_icmp_ge (tgt := 83) hx hb dX8_passes_58 (by decide) (fun c7 => ?_) (fun c7 => ?_)
    · have hw := hw.1 c7
      refine lv_iconst (v := (0 : Int32)) hx hb dX8_passes_83 (by decide) ?_
      refine lv_istore_n (lv' := [(1, .int (0 : Int32)), (0, .ref (ad 0))]) hx hb dX8_passes_84 rfl hl (by decide) rfl (fun ls hl => ?_)
      obtain ⟨n9, hw⟩ := hw
      exact mmk_passes_85  C0   n9 (0 : Int32) σ _ _ _ hw hW hS (lv_sub hl [1, 0] rfl)
    · have hw := hw.2 c7
      refine lv_aload_n hx hb dX8_passes_61 rfl (lv_at hl 0 rfl) ?_
      refine mm_getr hx hb hts hown hW 11 7 (by decide) q1282 dX8_passes_62 ?_
      refine lv_iconst (v := (2 : Int32)) hx hb dX8_passes_65 (by decide) ?_
      refine lv_iload_n hx hb dX8_passes_66 rfl (lv_at hl 1 rfl) ?_
      refine lv_imul hx hb dX8_passes_67 ?_
      refine lv_iconst (v := (1 : Int32)) hx hb dX8_passes_68 (by decide) ?_
      refine lv_iadd hx hb dX8_passes_69 ?_
      refine lv_aload_n hx hb dX8_passes_70 rfl (lv_at hl 0 rfl) ?_
      refine mm_getr hx hb hts hown hW 32 12 (by decide) q1303 dX8_passes_71 ?_
      refine lv_iload_n hx hb dX8_passes_74 rfl (lv_at hl 1 rfl) ?_
      obtain ⟨hin, hw⟩ := hw
      refine mm_ald hx hb hW 11 (by decide) hin dX8_passes_75 ?_
      obtain ⟨hin, hw⟩ := hw
      refine mm_ast hx hb hW hS 6 (by decide) hin dX8_passes_76 (fun H locs hW hS => ?_)
      obtain ⟨σ6, eσ6⟩ : ∃ z, z = gg_s σ 7 (((2 : Int32) * x1) + (1 : Int32)).toNatClampNeg (gg_g σ 12 x1.toNatClampNeg) := ⟨_, rfl⟩
      rw [← eσ6] at hW
      have hw := hw σ6 eσ6
      refine lv_iinc (v := (x1 + (1 : Int32))) (lv' := [(1, .int (x1 + (1 : Int32))), (0, .ref (ad 0))]) hx hb dX8_passes_77 hl (k := 1) rfl rfl (by decide) rfl (fun ls hl => ?_)
      refine lv_goto (tgt := 53) hx hb dX8_passes_80 (by decide) ?_
      exact ih (x1 + (1 : Int32)) σ6 _ _ _ hw hW hS (lv_sub hl [1, 0] rfl)
set_option maxHeartbeats 4000000 in
set_option maxRecDepth 100000 in
theorem mmk_passes_29 {p : Program} {l : Launch} {e : Env} {s : State} {m : MethodId} {args : Array Value} {below : List Frame} {meth : Method} {c : Code} {D : va_G} {cl : List vw_C} {E : ClassId × ClassId} {A : Nat → Prop} {ad : Nat → Nat} {Q : gg_S → Prop}   (C0 : gg_C p s m args meth c RX8 cX8_passes 2 none)  :
    ∀ n : Nat, ∀ (x1 : Int32) (σ : gg_S) (H : Heap) (locs : List Loc) (ls : Array Slot), mmw_passes_29 Q n x1 σ → mm_W D cl E A ad σ s H → va_S A s.heap H locs → lv_has ls 2 [(0, .ref (ad 0)), (1, .int x1)] → W p l e mmr_passes s m args below meth c H locs 0 0 (MQ below (va_Qv Q (fun u t => mm_W D cl E A ad u t t.heap) A) args s 0 0 A) (F0 m 29 ls []) := by
  obtain ⟨hx, hb, hml, hown, hts, hr, hlocks⟩ := id C0
  intro n
  induction n with
  | zero =>
    intro x1 σ H locs ls hw hW hS hl
    exact absurd hw (by unfold mmw_passes_29; exact id)
  | succ n ih =>
    intro x1 σ H locs ls hw hW hS hl
    unfold mmw_passes_29 at hw
    refine lv_iload_n hx hb dX8_passes_29 rfl (lv_at hl 1 rfl) ?_
    refine lv_iconst (v := (4 : Int32)) hx hb dX8_passes_30 (by decide) ?_
    refine lv_icmp_ge (tgt := 51) hx hb dX8_passes_31 (by decide) (fun c11 => ?_) (fun c11 => ?_)
    · have hw := hw.1 c11
      refine lv_iconst (v := (0 : Int32)) hx hb dX8_passes_51 (by decide) ?_
      refine lv_istore_n (lv' := [(1, .int (0 : Int32)), (0, .ref (ad 0))]) hx hb dX8_passes_52 rfl hl (by decide) rfl (fun ls hl => ?_)
      obtain ⟨n9, hw⟩ := hw
      exact mmk_passes_53  C0   n9 (0 : Int32) σ _ _ _ hw hW hS (lv_sub hl [1, 0] rfl)
    · have hw := hw.2 c11
      refine lv_aload_n hx hb dX8_passes_34 rfl (lv_at hl 0 rfl) ?_
      refine mm_getr hx hb hts hown hW 33 13 (by decide) q1304 dX8_passes_35 ?_
      refine lv_iload_n hx hb dX8_passes_38 rfl (lv_at hl 1 rfl) ?_
      refine lv_aload_n hx hb dX8_passes_39 rfl (lv_at hl 0 rfl) ?_
      refine lv_iload_n hx hb dX8_passes_40 rfl (lv_at hl 1 rfl) ?_
      refine mm_VI ⟨hx, hb, hml, hown, hts⟩ (mmt_shakenOf l _ _ hw) (cwV 1 hts (lw_V q1543 q1545 qs83 q120 q1546) rfl rfl rfl cd_X8_shakenOf ⟨Nat.le_of_ble_eq_true rfl, Nat.le_of_ble_eq_true rfl⟩) hW (mm_recv hW) hS rfl hl.1 rfl (Nat.le_of_ble_eq_true rfl) dX8_passes_41 (fun r9 σ8 H locs hw hW hS => ?_)
      obtain ⟨hin, hw⟩ := hw
      refine mm_ast hx hb hW hS 12 (by decide) hin dX8_passes_44 (fun H locs hW hS => ?_)
      obtain ⟨σ10, eσ10⟩ : ∃ z, z = gg_s σ8 13 x1.toNatClampNeg r9 := ⟨_, rfl⟩
      rw [← eσ10] at hW
      have hw := hw σ10 eσ10
      refine lv_iinc (v := (x1 + (1 : Int32))) (lv' := [(1, .int (x1 + (1 : Int32))), (0, .ref (ad 0))]) hx hb dX8_passes_45 hl (k := 1) rfl rfl (by decide) rfl (fun ls hl => ?_)
      refine lv_goto (tgt := 29) hx hb dX8_passes_48 (by decide) ?_
      exact ih (x1 + (1 : Int32)) σ10 _ _ _ hw hW hS (lv_sub hl [1, 0] rfl)
set_option maxHeartbeats 4000000 in
set_option maxRecDepth 100000 in
theorem mmk_passes_2 {p : Program} {l : Launch} {e : Env} {s : State} {m : MethodId} {args : Array Value} {below : List Frame} {meth : Method} {c : Code} {D : va_G} {cl : List vw_C} {E : ClassId × ClassId} {A : Nat → Prop} {ad : Nat → Nat} {Q : gg_S → Prop}   (C0 : gg_C p s m args meth c RX8 cX8_passes 2 none)  :
    ∀ n : Nat, ∀ (x1 : Int32) (σ : gg_S) (H : Heap) (locs : List Loc) (ls : Array Slot), mmw_passes_2 Q n x1 σ → mm_W D cl E A ad σ s H → va_S A s.heap H locs → lv_has ls 2 [(0, .ref (ad 0)), (1, .int x1)] → W p l e mmr_passes s m args below meth c H locs 0 0 (MQ below (va_Qv Q (fun u t => mm_W D cl E A ad u t t.heap) A) args s 0 0 A) (F0 m 2 ls []) := by
  obtain ⟨hx, hb, hml, hown, hts, hr, hlocks⟩ := id C0
  intro n
  induction n with
  | zero =>
    intro x1 σ H locs ls hw hW hS hl
    exact absurd hw (by unfold mmw_passes_2; exact id)
  | succ n ih =>
    intro x1 σ H locs ls hw hW hS hl
    unfold mmw_passes_2 at hw
    refine lv_iload_n hx hb dX8_passes_2 rfl (lv_at hl 1 rfl) ?_
    refine lv_aload_n hx hb dX8_passes_3 rfl (lv_at hl 0 rfl) ?_
    refine mm_geti hx hb hts hown hW 12 (by decide) q1283 dX8_passes_4 ?_
    refine lv_icmp_ge (tgt := 27) hx hb dX8_passes_7 (by decide) (fun c15 => ?_) (fun c15 => ?_)
    · have hw := hw.1 c15
      refine lv_iconst (v := (0 : Int32)) hx hb dX8_passes_27 (by decide) ?_
      refine lv_istore_n (lv' := [(1, .int (0 : Int32)), (0, .ref (ad 0))]) hx hb dX8_passes_28 rfl hl (by decide) rfl (fun ls hl => ?_)
      obtain ⟨n9, hw⟩ := hw
      exact mmk_passes_29  C0   n9 (0 : Int32) σ _ _ _ hw hW hS (lv_sub hl [1, 0] rfl)
    · have hw := hw.2 c15
      refine lv_aload_n hx hb dX8_passes_10 rfl (lv_at hl 0 rfl) ?_
      refine mm_getr hx hb hts hown hW 32 12 (by decide) q1303 dX8_passes_11 ?_
      refine lv_iload_n hx hb dX8_passes_14 rfl (lv_at hl 1 rfl) ?_
      refine lv_aload_n hx hb dX8_passes_15 rfl (lv_at hl 0 rfl) ?_
      refine lv_iload_n hx hb dX8_passes_16 rfl (lv_at hl 1 rfl) ?_
      refine mm_VI ⟨hx, hb, hml, hown, hts⟩ (mmt_keepsOf l _ _ hw) (cwV 1 hts (lw_V q1450 q1452 qs62 q120 q1453) rfl rfl rfl cd_X8_keepsOf ⟨Nat.le_of_ble_eq_true rfl, Nat.le_of_ble_eq_true rfl⟩) hW (mm_recv hW) hS rfl hl.1 rfl (Nat.le_of_ble_eq_true rfl) dX8_passes_17 (fun r13 σ12 H locs hw hW hS => ?_)
      obtain ⟨hin, hw⟩ := hw
      refine mm_ast hx hb hW hS 11 (by decide) hin dX8_passes_20 (fun H locs hW hS => ?_)
      obtain ⟨σ14, eσ14⟩ : ∃ z, z = gg_s σ12 12 x1.toNatClampNeg r13 := ⟨_, rfl⟩
      rw [← eσ14] at hW
      have hw := hw σ14 eσ14
      refine lv_iinc (v := (x1 + (1 : Int32))) (lv' := [(1, .int (x1 + (1 : Int32))), (0, .ref (ad 0))]) hx hb dX8_passes_21 hl (k := 1) rfl rfl (by decide) rfl (fun ls hl => ?_)
      refine lv_goto (tgt := 2) hx hb dX8_passes_24 (by decide) ?_
      exact ih (x1 + (1 : Int32)) σ14 _ _ _ hw hW hS (lv_sub hl [1, 0] rfl)
set_option maxHeartbeats 4000000 in
set_option maxRecDepth 100000 in
theorem mmt_passes (l : Launch) {D : va_G} {cl : List vw_C} {E : ClassId × ClassId} {A : Nat → Prop} {ad : Nat → Nat}   (σ : gg_S) {Q : gg_S → Prop} (hw : mmw_passes σ Q) :
    Met l yX8_passes (ws_ yX8_passes cX8_passes 2 none) mmr_passes (va_Pc [.ref (ad 0)] (fun U => mm_W D cl E A ad σ U U.heap)) (va_Qv Q (fun u t => mm_W D cl E A ad u t t.heap) A) 0 0 A := by
  refine gg_entry (W0 := fun s H => mm_W D cl E A ad σ s H) (by decide) (Nat.le_of_ble_eq_true rfl) ?_
  intro p e s m args below meth c C0 hW ls hl
  have C0 : gg_C p s m args meth c RX8 cX8_passes 2 none := C0
  obtain ⟨hx, hb, hml, hown, hts, hr, hlocks⟩ := id C0
  have hl : lv_has ls 2 [(0, .ref (ad 0))] := hl
  have hS : va_S A s.heap s.heap [] := va_S.rf
  unfold mmw_passes at hw
  refine lv_iconst (v := (0 : Int32)) hx hb dX8_passes_0 (by decide) ?_
  refine lv_istore_n (lv' := [(1, .int (0 : Int32)), (0, .ref (ad 0))]) hx hb dX8_passes_1 rfl hl (by decide) rfl (fun ls hl => ?_)
  obtain ⟨n9, hw⟩ := hw
  exact mmk_passes_2  C0   n9 (0 : Int32) σ _ _ _ hw hW hS (lv_sub hl [1, 0] rfl)
theorem cd_X8_night : yX8_night.cls = RX8 ∧ yX8_night.cls ≠ "java/lang/invoke/MethodHandle" ∧ yX8_night.cls ≠ "java/lang/invoke/VarHandle" ∧ (parseMethodDescriptor yX8_night.desc).map (fun d => d.parameters.length) = some 0 := by decide +kernel
/-! GleanersForGapsModel.night()I -/
def mmw_night   (σ : gg_S) (Q : Int32 → gg_S → Prop) : Prop :=
    ((((gg_g σ 0 7) = (999 : Int32)) → Q (-3 : Int32) σ) ∧ (¬ ((gg_g σ 0 7) = (999 : Int32)) → (mmw_passes σ (fun σ1 => (mmw_gapsAll σ1 (fun r3 σ2 => Q r3 σ2))))))
abbrev mmr_night : Room := { frames := 52, cells := 0, slots := 0, locals := 1198 }
set_option maxHeartbeats 4000000 in
set_option maxRecDepth 100000 in
theorem mmt_night (l : Launch) {D : va_G} {cl : List vw_C} {E : ClassId × ClassId} {A : Nat → Prop} {ad : Nat → Nat}   (σ : gg_S) {Q : Int32 → gg_S → Prop} (hw : mmw_night σ Q) :
    Met l yX8_night (ws_ yX8_night cX8_night 1 (some .int)) mmr_night (va_Pc [.ref (ad 0)] (fun U => mm_W D cl E A ad σ U U.heap)) (va_Qi Q (fun u t => mm_W D cl E A ad u t t.heap) A) 0 0 A := by
  refine gg_entry (W0 := fun s H => mm_W D cl E A ad σ s H) (by decide) (Nat.le_of_ble_eq_true rfl) ?_
  intro p e s m args below meth c C0 hW ls hl
  have C0 : gg_C p s m args meth c RX8 cX8_night 1 (some .int) := C0
  obtain ⟨hx, hb, hml, hown, hts, hr, hlocks⟩ := id C0
  have hl : lv_has ls 1 [(0, .ref (ad 0))] := hl
  have hS : va_S A s.heap s.heap [] := va_S.rf
  unfold mmw_night at hw
  refine lv_aload_n hx hb dX8_night_0 rfl (lv_at hl 0 rfl) ?_
  refine mm_geti hx hb hts hown hW 7 (by decide) q1278 dX8_night_1 ?_
  refine lv_sipush (v := (999 : Int32)) hx hb dX8_night_4 (by decide) ?_
  refine lv_icmp_ne (tgt := 13) hx hb dX8_night_7 (by decide) (fun c4 => ?_) (fun c4 => ?_)
  · have hw := hw.2 c4
    refine lv_aload_n hx hb dX8_night_13 rfl (lv_at hl 0 rfl) ?_
    refine mm_VV ⟨hx, hb, hml, hown, hts⟩ (mmt_passes l _ hw) (cwV 0 hts (lw_V q1607 q1609 qs89 q120 q1610) rfl rfl rfl cd_X8_passes ⟨Nat.le_of_ble_eq_true rfl, Nat.le_of_ble_eq_true rfl⟩) hW (mm_recv hW) hS rfl hl.1 rfl (Nat.le_of_ble_eq_true rfl) dX8_night_14 (fun σ1 H locs hw hW hS => ?_)
    refine lv_aload_n hx hb dX8_night_17 rfl (lv_at hl 0 rfl) ?_
    refine mm_VI ⟨hx, hb, hml, hown, hts⟩ (mmt_gapsAll l _ hw) (cwV 0 hts (lw_V q1611 q1613 qs90 q120 q1614) rfl rfl rfl cd_X8_gapsAll ⟨Nat.le_of_ble_eq_true rfl, Nat.le_of_ble_eq_true rfl⟩) hW (mm_recv hW) hS rfl hl.1 rfl (Nat.le_of_ble_eq_true rfl) dX8_night_18 (fun r3 σ2 H locs hw hW hS => ?_)
    exact gg_iret (mm_mv D cl E A ad) C0 hW hS hw dX8_night_21
  · have hw := hw.1 c4
    refine lv_bipush (v := (-3 : Int32)) hx hb dX8_night_10 (by decide) ?_
    exact gg_iret (mm_mv D cl E A ad) C0 hW hS hw dX8_night_12
theorem cd_X8_laysAside : yX8_laysAside.cls = RX8 ∧ yX8_laysAside.cls ≠ "java/lang/invoke/MethodHandle" ∧ yX8_laysAside.cls ≠ "java/lang/invoke/VarHandle" ∧ (parseMethodDescriptor yX8_laysAside.desc).map (fun d => d.parameters.length) = some 0 := by decide +kernel
/-! GleanersForGapsModel.laysAside()V -/
def mmw_laysAside_2  (Q : gg_S → Prop)  : Nat → Int32 → gg_S → Prop
  | 0, _, _ => False
  | n + 1, x1, σ =>
    ((((5 : Int32) ≤ x1) → vp_in (15 : Int32) 21 ∧ (∀ σ1 : gg_S, σ1 = gg_s σ 14 (15 : Int32).toNatClampNeg (gg_g σ 0 7) → Q σ1)) ∧ (¬ ((5 : Int32) ≤ x1) → vp_in x1 5 ∧ vp_in x1 21 ∧ (∀ σ2 : gg_S, σ2 = gg_s σ 14 x1.toNatClampNeg (gg_g σ 4 x1.toNatClampNeg) → vp_in x1 5 ∧ vp_in ((5 : Int32) + x1) 21 ∧ (∀ σ3 : gg_S, σ3 = gg_s σ2 14 ((5 : Int32) + x1).toNatClampNeg (gg_g σ2 5 x1.toNatClampNeg) → vp_in (((2 : Int32) * x1) + (1 : Int32)) 10 ∧ vp_in ((10 : Int32) + x1) 21 ∧ (∀ σ4 : gg_S, σ4 = gg_s σ3 14 ((10 : Int32) + x1).toNatClampNeg (gg_g σ3 7 (((2 : Int32) * x1) + (1 : Int32)).toNatClampNeg) → mmw_laysAside_2 Q n (x1 + (1 : Int32)) σ4)))))
def mmw_laysAside   (σ : gg_S) (Q : gg_S → Prop) : Prop :=
    ∃ k9, mmw_laysAside_2 Q k9 (0 : Int32) σ
abbrev mmr_laysAside : Room := { frames := 0, cells := 0, slots := 0, locals := 0 }
set_option maxHeartbeats 4000000 in
set_option maxRecDepth 100000 in
theorem mmk_laysAside_2 {p : Program} {l : Launch} {e : Env} {s : State} {m : MethodId} {args : Array Value} {below : List Frame} {meth : Method} {c : Code} {D : va_G} {cl : List vw_C} {E : ClassId × ClassId} {A : Nat → Prop} {ad : Nat → Nat} {Q : gg_S → Prop}   (C0 : gg_C p s m args meth c RX8 cX8_laysAside 2 none)  :
    ∀ n : Nat, ∀ (x1 : Int32) (σ : gg_S) (H : Heap) (locs : List Loc) (ls : Array Slot), mmw_laysAside_2 Q n x1 σ → mm_W D cl E A ad σ s H → va_S A s.heap H locs → lv_has ls 2 [(0, .ref (ad 0)), (1, .int x1)] → W p l e mmr_laysAside s m args below meth c H locs 0 0 (MQ below (va_Qv Q (fun u t => mm_W D cl E A ad u t t.heap) A) args s 0 0 A) (F0 m 2 ls []) := by
  obtain ⟨hx, hb, hml, hown, hts, hr, hlocks⟩ := id C0
  intro n
  induction n with
  | zero =>
    intro x1 σ H locs ls hw hW hS hl
    exact absurd hw (by unfold mmw_laysAside_2; exact id)
  | succ n ih =>
    intro x1 σ H locs ls hw hW hS hl
    unfold mmw_laysAside_2 at hw
    refine lv_iload_n hx hb dX8_laysAside_2 rfl (lv_at hl 1 rfl) ?_
    refine lv_iconst (v := (5 : Int32)) hx hb dX8_laysAside_3 (by decide) ?_
    refine lv_icmp_ge (tgt := 58) hx hb dX8_laysAside_4 (by decide) (fun c5 => ?_) (fun c5 => ?_)
    · have hw := hw.1 c5
      refine lv_aload_n hx hb dX8_laysAside_58 rfl (lv_at hl 0 rfl) ?_
      refine mm_getr hx hb hts hown hW 34 14 (by decide) q1305 dX8_laysAside_59 ?_
      refine lv_bipush (v := (15 : Int32)) hx hb dX8_laysAside_62 (by decide) ?_
      refine lv_aload_n hx hb dX8_laysAside_64 rfl (lv_at hl 0 rfl) ?_
      refine mm_geti hx hb hts hown hW 7 (by decide) q1278 dX8_laysAside_65 ?_
      obtain ⟨hin, hw⟩ := hw
      refine mm_ast hx hb hW hS 13 (by decide) hin dX8_laysAside_68 (fun H locs hW hS => ?_)
      obtain ⟨σ1, eσ1⟩ : ∃ z, z = gg_s σ 14 (15 : Int32).toNatClampNeg (gg_g σ 0 7) := ⟨_, rfl⟩
      rw [← eσ1] at hW
      have hw := hw σ1 eσ1
      exact gg_vret (mm_mv D cl E A ad) C0 hW hS hw dX8_laysAside_69
    · have hw := hw.2 c5
      refine lv_aload_n hx hb dX8_laysAside_7 rfl (lv_at hl 0 rfl) ?_
      refine mm_getr hx hb hts hown hW 34 14 (by decide) q1305 dX8_laysAside_8 ?_
      refine lv_iload_n hx hb dX8_laysAside_11 rfl (lv_at hl 1 rfl) ?_
      refine lv_aload_n hx hb dX8_laysAside_12 rfl (lv_at hl 0 rfl) ?_
      refine mm_getr hx hb hts hown hW 8 4 (by decide) q1279 dX8_laysAside_13 ?_
      refine lv_iload_n hx hb dX8_laysAside_16 rfl (lv_at hl 1 rfl) ?_
      obtain ⟨hin, hw⟩ := hw
      refine mm_ald hx hb hW 3 (by decide) hin dX8_laysAside_17 ?_
      obtain ⟨hin, hw⟩ := hw
      refine mm_ast hx hb hW hS 13 (by decide) hin dX8_laysAside_18 (fun H locs hW hS => ?_)
      obtain ⟨σ2, eσ2⟩ : ∃ z, z = gg_s σ 14 x1.toNatClampNeg (gg_g σ 4 x1.toNatClampNeg) := ⟨_, rfl⟩
      rw [← eσ2] at hW
      have hw := hw σ2 eσ2
      refine lv_aload_n hx hb dX8_laysAside_19 rfl (lv_at hl 0 rfl) ?_
      refine mm_getr hx hb hts hown hW 34 14 (by decide) q1305 dX8_laysAside_20 ?_
      refine lv_iconst (v := (5 : Int32)) hx hb dX8_laysAside_23 (by decide) ?_
      refine lv_iload_n hx hb dX8_laysAside_24 rfl (lv_at hl 1 rfl) ?_
      refine lv_iadd hx hb dX8_laysAside_25 ?_
      refine lv_aload_n hx hb dX8_laysAside_26 rfl (lv_at hl 0 rfl) ?_
      refine mm_getr hx hb hts hown hW 9 5 (by decide) q1280 dX8_laysAside_27 ?_
      refine lv_iload_n hx hb dX8_laysAside_30 rfl (lv_at hl 1 rfl) ?_
      obtain ⟨hin, hw⟩ := hw
      refine mm_ald hx hb hW 4 (by decide) hin dX8_laysAside_31 ?_
      obtain ⟨hin, hw⟩ := hw
      refine mm_ast hx hb hW hS 13 (by decide) hin dX8_laysAside_32 (fun H locs hW hS => ?_)
      obtain ⟨σ3, eσ3⟩ : ∃ z, z = gg_s σ2 14 ((5 : Int32) + x1).toNatClampNeg (gg_g σ2 5 x1.toNatClampNeg) := ⟨_, rfl⟩
      rw [← eσ3] at hW
      have hw := hw σ3 eσ3
      refine lv_aload_n hx hb dX8_laysAside_33 rfl (lv_at hl 0 rfl) ?_
      refine mm_getr hx hb hts hown hW 34 14 (by decide) q1305 dX8_laysAside_34 ?_
      refine lv_bipush (v := (10 : Int32)) hx hb dX8_laysAside_37 (by decide) ?_
      refine lv_iload_n hx hb dX8_laysAside_39 rfl (lv_at hl 1 rfl) ?_
      refine lv_iadd hx hb dX8_laysAside_40 ?_
      refine lv_aload_n hx hb dX8_laysAside_41 rfl (lv_at hl 0 rfl) ?_
      refine mm_getr hx hb hts hown hW 11 7 (by decide) q1282 dX8_laysAside_42 ?_
      refine lv_iconst (v := (2 : Int32)) hx hb dX8_laysAside_45 (by decide) ?_
      refine lv_iload_n hx hb dX8_laysAside_46 rfl (lv_at hl 1 rfl) ?_
      refine lv_imul hx hb dX8_laysAside_47 ?_
      refine lv_iconst (v := (1 : Int32)) hx hb dX8_laysAside_48 (by decide) ?_
      refine lv_iadd hx hb dX8_laysAside_49 ?_
      obtain ⟨hin, hw⟩ := hw
      refine mm_ald hx hb hW 6 (by decide) hin dX8_laysAside_50 ?_
      obtain ⟨hin, hw⟩ := hw
      refine mm_ast hx hb hW hS 13 (by decide) hin dX8_laysAside_51 (fun H locs hW hS => ?_)
      obtain ⟨σ4, eσ4⟩ : ∃ z, z = gg_s σ3 14 ((10 : Int32) + x1).toNatClampNeg (gg_g σ3 7 (((2 : Int32) * x1) + (1 : Int32)).toNatClampNeg) := ⟨_, rfl⟩
      rw [← eσ4] at hW
      have hw := hw σ4 eσ4
      refine lv_iinc (v := (x1 + (1 : Int32))) (lv' := [(1, .int (x1 + (1 : Int32))), (0, .ref (ad 0))]) hx hb dX8_laysAside_52 hl (k := 1) rfl rfl (by decide) rfl (fun ls hl => ?_)
      refine lv_goto (tgt := 2) hx hb dX8_laysAside_55 (by decide) ?_
      exact ih (x1 + (1 : Int32)) σ4 _ _ _ hw hW hS (lv_sub hl [1, 0] rfl)
set_option maxHeartbeats 4000000 in
set_option maxRecDepth 100000 in
theorem mmt_laysAside (l : Launch) {D : va_G} {cl : List vw_C} {E : ClassId × ClassId} {A : Nat → Prop} {ad : Nat → Nat}   (σ : gg_S) {Q : gg_S → Prop} (hw : mmw_laysAside σ Q) :
    Met l yX8_laysAside (ws_ yX8_laysAside cX8_laysAside 2 none) mmr_laysAside (va_Pc [.ref (ad 0)] (fun U => mm_W D cl E A ad σ U U.heap)) (va_Qv Q (fun u t => mm_W D cl E A ad u t t.heap) A) 0 0 A := by
  refine gg_entry (W0 := fun s H => mm_W D cl E A ad σ s H) (by decide) (Nat.le_of_ble_eq_true rfl) ?_
  intro p e s m args below meth c C0 hW ls hl
  have C0 : gg_C p s m args meth c RX8 cX8_laysAside 2 none := C0
  obtain ⟨hx, hb, hml, hown, hts, hr, hlocks⟩ := id C0
  have hl : lv_has ls 2 [(0, .ref (ad 0))] := hl
  have hS : va_S A s.heap s.heap [] := va_S.rf
  unfold mmw_laysAside at hw
  refine lv_iconst (v := (0 : Int32)) hx hb dX8_laysAside_0 (by decide) ?_
  refine lv_istore_n (lv' := [(1, .int (0 : Int32)), (0, .ref (ad 0))]) hx hb dX8_laysAside_1 rfl hl (by decide) rfl (fun ls hl => ?_)
  obtain ⟨n9, hw⟩ := hw
  exact mmk_laysAside_2  C0   n9 (0 : Int32) σ _ _ _ hw hW hS (lv_sub hl [1, 0] rfl)
theorem cd_X8_laysBack : yX8_laysBack.cls = RX8 ∧ yX8_laysBack.cls ≠ "java/lang/invoke/MethodHandle" ∧ yX8_laysBack.cls ≠ "java/lang/invoke/VarHandle" ∧ (parseMethodDescriptor yX8_laysBack.desc).map (fun d => d.parameters.length) = some 0 := by decide +kernel
/-! GleanersForGapsModel.laysBack()V -/
def mmw_laysBack_2  (Q : gg_S → Prop)  : Nat → Int32 → gg_S → Prop
  | 0, _, _ => False
  | n + 1, x1, σ =>
    ((((5 : Int32) ≤ x1) → vp_in (15 : Int32) 21 ∧ (∀ σ1 : gg_S, σ1 = gg_s σ 0 7 (gg_g σ 14 (15 : Int32).toNatClampNeg) → Q σ1)) ∧ (¬ ((5 : Int32) ≤ x1) → vp_in x1 21 ∧ vp_in x1 5 ∧ (∀ σ2 : gg_S, σ2 = gg_s σ 4 x1.toNatClampNeg (gg_g σ 14 x1.toNatClampNeg) → vp_in ((5 : Int32) + x1) 21 ∧ vp_in x1 5 ∧ (∀ σ3 : gg_S, σ3 = gg_s σ2 5 x1.toNatClampNeg (gg_g σ2 14 ((5 : Int32) + x1).toNatClampNeg) → vp_in ((10 : Int32) + x1) 21 ∧ vp_in (((2 : Int32) * x1) + (1 : Int32)) 10 ∧ (∀ σ4 : gg_S, σ4 = gg_s σ3 7 (((2 : Int32) * x1) + (1 : Int32)).toNatClampNeg (gg_g σ3 14 ((10 : Int32) + x1).toNatClampNeg) → mmw_laysBack_2 Q n (x1 + (1 : Int32)) σ4)))))
def mmw_laysBack   (σ : gg_S) (Q : gg_S → Prop) : Prop :=
    ∃ k9, mmw_laysBack_2 Q k9 (0 : Int32) σ
abbrev mmr_laysBack : Room := { frames := 0, cells := 0, slots := 0, locals := 0 }
set_option maxHeartbeats 4000000 in
set_option maxRecDepth 100000 in
theorem mmk_laysBack_2 {p : Program} {l : Launch} {e : Env} {s : State} {m : MethodId} {args : Array Value} {below : List Frame} {meth : Method} {c : Code} {D : va_G} {cl : List vw_C} {E : ClassId × ClassId} {A : Nat → Prop} {ad : Nat → Nat} {Q : gg_S → Prop}   (C0 : gg_C p s m args meth c RX8 cX8_laysBack 2 none)  :
    ∀ n : Nat, ∀ (x1 : Int32) (σ : gg_S) (H : Heap) (locs : List Loc) (ls : Array Slot), mmw_laysBack_2 Q n x1 σ → mm_W D cl E A ad σ s H → va_S A s.heap H locs → lv_has ls 2 [(0, .ref (ad 0)), (1, .int x1)] → W p l e mmr_laysBack s m args below meth c H locs 0 0 (MQ below (va_Qv Q (fun u t => mm_W D cl E A ad u t t.heap) A) args s 0 0 A) (F0 m 2 ls []) := by
  obtain ⟨hx, hb, hml, hown, hts, hr, hlocks⟩ := id C0
  intro n
  induction n with
  | zero =>
    intro x1 σ H locs ls hw hW hS hl
    exact absurd hw (by unfold mmw_laysBack_2; exact id)
  | succ n ih =>
    intro x1 σ H locs ls hw hW hS hl
    unfold mmw_laysBack_2 at hw
    refine lv_iload_n hx hb dX8_laysBack_2 rfl (lv_at hl 1 rfl) ?_
    refine lv_iconst (v := (5 : Int32)) hx hb dX8_laysBack_3 (by decide) ?_
    refine lv_icmp_ge (tgt := 58) hx hb dX8_laysBack_4 (by decide) (fun c5 => ?_) (fun c5 => ?_)
    · have hw := hw.1 c5
      refine lv_aload_n hx hb dX8_laysBack_58 rfl (lv_at hl 0 rfl) ?_
      refine lv_aload_n hx hb dX8_laysBack_59 rfl (lv_at hl 0 rfl) ?_
      refine mm_getr hx hb hts hown hW 34 14 (by decide) q1305 dX8_laysBack_60 ?_
      refine lv_bipush (v := (15 : Int32)) hx hb dX8_laysBack_63 (by decide) ?_
      obtain ⟨hin, hw⟩ := hw
      refine mm_ald hx hb hW 13 (by decide) hin dX8_laysBack_65 ?_
      refine mm_puti hx hb hts hown hW hS 7 (by decide) q1278 rfl rfl rfl dX8_laysBack_66 (fun H locs hW hS => ?_)
      obtain ⟨σ1, eσ1⟩ : ∃ z, z = gg_s σ 0 7 (gg_g σ 14 (15 : Int32).toNatClampNeg) := ⟨_, rfl⟩
      rw [← eσ1] at hW
      have hw := hw σ1 eσ1
      exact gg_vret (mm_mv D cl E A ad) C0 hW hS hw dX8_laysBack_69
    · have hw := hw.2 c5
      refine lv_aload_n hx hb dX8_laysBack_7 rfl (lv_at hl 0 rfl) ?_
      refine mm_getr hx hb hts hown hW 8 4 (by decide) q1279 dX8_laysBack_8 ?_
      refine lv_iload_n hx hb dX8_laysBack_11 rfl (lv_at hl 1 rfl) ?_
      refine lv_aload_n hx hb dX8_laysBack_12 rfl (lv_at hl 0 rfl) ?_
      refine mm_getr hx hb hts hown hW 34 14 (by decide) q1305 dX8_laysBack_13 ?_
      refine lv_iload_n hx hb dX8_laysBack_16 rfl (lv_at hl 1 rfl) ?_
      obtain ⟨hin, hw⟩ := hw
      refine mm_ald hx hb hW 13 (by decide) hin dX8_laysBack_17 ?_
      obtain ⟨hin, hw⟩ := hw
      refine mm_ast hx hb hW hS 3 (by decide) hin dX8_laysBack_18 (fun H locs hW hS => ?_)
      obtain ⟨σ2, eσ2⟩ : ∃ z, z = gg_s σ 4 x1.toNatClampNeg (gg_g σ 14 x1.toNatClampNeg) := ⟨_, rfl⟩
      rw [← eσ2] at hW
      have hw := hw σ2 eσ2
      refine lv_aload_n hx hb dX8_laysBack_19 rfl (lv_at hl 0 rfl) ?_
      refine mm_getr hx hb hts hown hW 9 5 (by decide) q1280 dX8_laysBack_20 ?_
      refine lv_iload_n hx hb dX8_laysBack_23 rfl (lv_at hl 1 rfl) ?_
      refine lv_aload_n hx hb dX8_laysBack_24 rfl (lv_at hl 0 rfl) ?_
      refine mm_getr hx hb hts hown hW 34 14 (by decide) q1305 dX8_laysBack_25 ?_
      refine lv_iconst (v := (5 : Int32)) hx hb dX8_laysBack_28 (by decide) ?_
      refine lv_iload_n hx hb dX8_laysBack_29 rfl (lv_at hl 1 rfl) ?_
      refine lv_iadd hx hb dX8_laysBack_30 ?_
      obtain ⟨hin, hw⟩ := hw
      refine mm_ald hx hb hW 13 (by decide) hin dX8_laysBack_31 ?_
      obtain ⟨hin, hw⟩ := hw
      refine mm_ast hx hb hW hS 4 (by decide) hin dX8_laysBack_32 (fun H locs hW hS => ?_)
      obtain ⟨σ3, eσ3⟩ : ∃ z, z = gg_s σ2 5 x1.toNatClampNeg (gg_g σ2 14 ((5 : Int32) + x1).toNatClampNeg) := ⟨_, rfl⟩
      rw [← eσ3] at hW
      have hw := hw σ3 eσ3
      refine lv_aload_n hx hb dX8_laysBack_33 rfl (lv_at hl 0 rfl) ?_
      refine mm_getr hx hb hts hown hW 11 7 (by decide) q1282 dX8_laysBack_34 ?_
      refine lv_iconst (v := (2 : Int32)) hx hb dX8_laysBack_37 (by decide) ?_
      refine lv_iload_n hx hb dX8_laysBack_38 rfl (lv_at hl 1 rfl) ?_
      refine lv_imul hx hb dX8_laysBack_39 ?_
      refine lv_iconst (v := (1 : Int32)) hx hb dX8_laysBack_40 (by decide) ?_
      refine lv_iadd hx hb dX8_laysBack_41 ?_
      refine lv_aload_n hx hb dX8_laysBack_42 rfl (lv_at hl 0 rfl) ?_
      refine mm_getr hx hb hts hown hW 34 14 (by decide) q1305 dX8_laysBack_43 ?_
      refine lv_bipush (v := (10 : Int32)) hx hb dX8_laysBack_46 (by decide) ?_
      refine lv_iload_n hx hb dX8_laysBack_48 rfl (lv_at hl 1 rfl) ?_
      refine lv_iadd hx hb dX8_laysBack_49 ?_
      obtain ⟨hin, hw⟩ := hw
      refine mm_ald hx hb hW 13 (by decide) hin dX8_laysBack_50 ?_
      obtain ⟨hin, hw⟩ := hw
      refine mm_ast hx hb hW hS 6 (by decide) hin dX8_laysBack_51 (fun H locs hW hS => ?_)
      obtain ⟨σ4, eσ4⟩ : ∃ z, z = gg_s σ3 7 (((2 : Int32) * x1) + (1 : Int32)).toNatClampNeg (gg_g σ3 14 ((10 : Int32) + x1).toNatClampNeg) := ⟨_, rfl⟩
      rw [← eσ4] at hW
      have hw := hw σ4 eσ4
      refine lv_iinc (v := (x1 + (1 : Int32))) (lv' := [(1, .int (x1 + (1 : Int32))), (0, .ref (ad 0))]) hx hb dX8_laysBack_52 hl (k := 1) rfl rfl (by decide) rfl (fun ls hl => ?_)
      refine lv_goto (tgt := 2) hx hb dX8_laysBack_55 (by decide) ?_
      exact ih (x1 + (1 : Int32)) σ4 _ _ _ hw hW hS (lv_sub hl [1, 0] rfl)
set_option maxHeartbeats 4000000 in
set_option maxRecDepth 100000 in
theorem mmt_laysBack (l : Launch) {D : va_G} {cl : List vw_C} {E : ClassId × ClassId} {A : Nat → Prop} {ad : Nat → Nat}   (σ : gg_S) {Q : gg_S → Prop} (hw : mmw_laysBack σ Q) :
    Met l yX8_laysBack (ws_ yX8_laysBack cX8_laysBack 2 none) mmr_laysBack (va_Pc [.ref (ad 0)] (fun U => mm_W D cl E A ad σ U U.heap)) (va_Qv Q (fun u t => mm_W D cl E A ad u t t.heap) A) 0 0 A := by
  refine gg_entry (W0 := fun s H => mm_W D cl E A ad σ s H) (by decide) (Nat.le_of_ble_eq_true rfl) ?_
  intro p e s m args below meth c C0 hW ls hl
  have C0 : gg_C p s m args meth c RX8 cX8_laysBack 2 none := C0
  obtain ⟨hx, hb, hml, hown, hts, hr, hlocks⟩ := id C0
  have hl : lv_has ls 2 [(0, .ref (ad 0))] := hl
  have hS : va_S A s.heap s.heap [] := va_S.rf
  unfold mmw_laysBack at hw
  refine lv_iconst (v := (0 : Int32)) hx hb dX8_laysBack_0 (by decide) ?_
  refine lv_istore_n (lv' := [(1, .int (0 : Int32)), (0, .ref (ad 0))]) hx hb dX8_laysBack_1 rfl hl (by decide) rfl (fun ls hl => ?_)
  obtain ⟨n9, hw⟩ := hw
  exact mmk_laysBack_2  C0   n9 (0 : Int32) σ _ _ _ hw hW hS (lv_sub hl [1, 0] rfl)
theorem cd_X8_triesOf : yX8_triesOf.cls = RX8 ∧ yX8_triesOf.cls ≠ "java/lang/invoke/MethodHandle" ∧ yX8_triesOf.cls ≠ "java/lang/invoke/VarHandle" ∧ (parseMethodDescriptor yX8_triesOf.desc).map (fun d => d.parameters.length) = some 3 := by decide +kernel
/-! GleanersForGapsModel.triesOf(III)I -/
def mmw_triesOf_57  (Q : Int32 → gg_S → Prop)  (s0 : Int32) (σ : gg_S) : Prop :=
    (mmw_laysBack σ (fun σ6 => Q s0 σ6))
def mmw_triesOf  (a1 : Int32) (a2 : Int32) (a3 : Int32) (σ : gg_S) (Q : Int32 → gg_S → Prop) : Prop :=
    (mmw_laysAside σ (fun σ1 => (mmw_gleans a1 a2 σ1 (fun r3 σ2 => (((a3 = 0) → mmw_triesOf_57 Q r3 σ2) ∧ (¬ (a3 = 0) → (((a3 = (1 : Int32)) → (mmw_leftOf a2 σ2 (fun r9 σ8 => mmw_triesOf_57 Q r9 σ8))) ∧ (¬ (a3 = (1 : Int32)) → (((a3 = (2 : Int32)) → vp_in (((2 : Int32) * a1) + (1 : Int32)) 10 ∧ mmw_triesOf_57 Q (gg_g σ2 7 (((2 : Int32) * a1) + (1 : Int32)).toNatClampNeg) σ2) ∧ (¬ (a3 = (2 : Int32)) → (mmw_greatestOf a2 σ2 (fun r5 σ4 => mmw_triesOf_57 Q r5 σ4))))))))))))
abbrev mmr_triesOf : Room := { frames := 52, cells := 0, slots := 0, locals := 1207 }
set_option maxHeartbeats 4000000 in
set_option maxRecDepth 100000 in
theorem mmk_triesOf_57 {p : Program} {l : Launch} {e : Env} {s : State} {m : MethodId} {args : Array Value} {below : List Frame} {meth : Method} {c : Code} {D : va_G} {cl : List vw_C} {E : ClassId × ClassId} {A : Nat → Prop} {ad : Nat → Nat} {Q : Int32 → gg_S → Prop}   (C0 : gg_C p s m args meth c RX8 cX8_triesOf 6 (some .int))  :
    ∀ (s0 : Int32) (σ : gg_S) (H : Heap) (locs : List Loc) (ls : Array Slot), mmw_triesOf_57 Q s0 σ → mm_W D cl E A ad σ s H → va_S A s.heap H locs → lv_has ls 6 [(0, .ref (ad 0))] → W p l e mmr_triesOf s m args below meth c H locs 0 0 (MQ below (va_Qi Q (fun u t => mm_W D cl E A ad u t t.heap) A) args s 0 0 A) (F0 m 57 ls [.int s0]) := by
  obtain ⟨hx, hb, hml, hown, hts, hr, hlocks⟩ := id C0
  intro s0 σ H locs ls hw hW hS hl
  unfold mmw_triesOf_57 at hw
  refine lv_istore (lv' := [(5, .int s0), (0, .ref (ad 0))]) hx hb dX8_triesOf_57 hl (by decide) rfl (fun ls hl => ?_)
  refine lv_aload_n hx hb dX8_triesOf_59 rfl (lv_at hl 1 rfl) ?_
  refine mm_VV ⟨hx, hb, hml, hown, hts⟩ (mmt_laysBack l _ hw) (cwV 0 hts (lw_V q1627 q1629 qs93 q120 q1630) rfl rfl rfl cd_X8_laysBack ⟨Nat.le_of_ble_eq_true rfl, Nat.le_of_ble_eq_true rfl⟩) hW (mm_recv hW) hS rfl hl.1 rfl (Nat.le_of_ble_eq_true rfl) dX8_triesOf_60 (fun σ6 H locs hw hW hS => ?_)
  refine lv_iload hx hb dX8_triesOf_63 (lv_at hl 0 rfl) ?_
  exact gg_iret (mm_mv D cl E A ad) C0 hW hS hw dX8_triesOf_65
set_option maxHeartbeats 4000000 in
set_option maxRecDepth 100000 in
theorem mmt_triesOf (l : Launch) {D : va_G} {cl : List vw_C} {E : ClassId × ClassId} {A : Nat → Prop} {ad : Nat → Nat}  (a1 : Int32) (a2 : Int32) (a3 : Int32) (σ : gg_S) {Q : Int32 → gg_S → Prop} (hw : mmw_triesOf a1 a2 a3 σ Q) :
    Met l yX8_triesOf (ws_ yX8_triesOf cX8_triesOf 6 (some .int)) mmr_triesOf (va_Pc [.ref (ad 0), .int a1, .int a2, .int a3] (fun U => mm_W D cl E A ad σ U U.heap)) (va_Qi Q (fun u t => mm_W D cl E A ad u t t.heap) A) 0 0 A := by
  refine gg_entry (W0 := fun s H => mm_W D cl E A ad σ s H) (by decide) (Nat.le_of_ble_eq_true rfl) ?_
  intro p e s m args below meth c C0 hW ls hl
  have C0 : gg_C p s m args meth c RX8 cX8_triesOf 6 (some .int) := C0
  obtain ⟨hx, hb, hml, hown, hts, hr, hlocks⟩ := id C0
  have hl : lv_has ls 6 [(0, .ref (ad 0)), (1, .int a1), (2, .int a2), (3, .int a3)] := hl
  have hS : va_S A s.heap s.heap [] := va_S.rf
  unfold mmw_triesOf at hw
  refine lv_aload_n hx hb dX8_triesOf_0 rfl (lv_at hl 0 rfl) ?_
  refine mm_VV ⟨hx, hb, hml, hown, hts⟩ (mmt_laysAside l _ hw) (cwV 0 hts (lw_V q1623 q1625 qs92 q120 q1626) rfl rfl rfl cd_X8_laysAside ⟨Nat.le_of_ble_eq_true rfl, Nat.le_of_ble_eq_true rfl⟩) hW (mm_recv hW) hS rfl hl.1 rfl (Nat.le_of_ble_eq_true rfl) dX8_triesOf_1 (fun σ1 H locs hw hW hS => ?_)
  refine lv_aload_n hx hb dX8_triesOf_4 rfl (lv_at hl 0 rfl) ?_
  refine lv_iload_n hx hb dX8_triesOf_5 rfl (lv_at hl 1 rfl) ?_
  refine lv_iload_n hx hb dX8_triesOf_6 rfl (lv_at hl 2 rfl) ?_
  refine mm_VI ⟨hx, hb, hml, hown, hts⟩ (mmt_gleans l _ _ _ hw) (cwV 2 hts (lw_V q1587 q1589 qs86 q120 q1590) rfl rfl rfl cd_X8_gleans ⟨Nat.le_of_ble_eq_true rfl, Nat.le_of_ble_eq_true rfl⟩) hW (mm_recv hW) hS rfl hl.1 rfl (Nat.le_of_ble_eq_true rfl) dX8_triesOf_7 (fun r3 σ2 H locs hw hW hS => ?_)
  refine lv_istore (lv' := [(4, .int r3), (0, .ref (ad 0)), (1, .int a1), (2, .int a2), (3, .int a3)]) hx hb dX8_triesOf_10 hl (by decide) rfl (fun ls hl => ?_)
  refine lv_iload_n hx hb dX8_triesOf_12 rfl (lv_at hl 4 rfl) ?_
  refine lv_if_ne (tgt := 21) hx hb dX8_triesOf_13 (by decide) (fun c11 => ?_) (fun c11 => ?_)
  · have hw := hw.2 c11
    refine lv_iload_n hx hb dX8_triesOf_21 rfl (lv_at hl 4 rfl) ?_
    refine lv_iconst (v := (1 : Int32)) hx hb dX8_triesOf_22 (by decide) ?_
    refine lv_icmp_ne (tgt := 34) hx hb dX8_triesOf_23 (by decide) (fun c10 => ?_) (fun c10 => ?_)
    · have hw := hw.2 c10
      refine lv_iload_n hx hb dX8_triesOf_34 rfl (lv_at hl 4 rfl) ?_
      refine lv_iconst (v := (2 : Int32)) hx hb dX8_triesOf_35 (by decide) ?_
      refine lv_icmp_ne (tgt := 52) hx hb dX8_triesOf_36 (by decide) (fun c7 => ?_) (fun c7 => ?_)
      · have hw := hw.2 c7
        refine lv_aload_n hx hb dX8_triesOf_52 rfl (lv_at hl 1 rfl) ?_
        refine lv_iload_n hx hb dX8_triesOf_53 rfl (lv_at hl 3 rfl) ?_
        refine mm_VI ⟨hx, hb, hml, hown, hts⟩ (mmt_greatestOf l _ _ hw) (cwV 1 hts (lw_V q1539 q1541 qs82 q120 q1542) rfl rfl rfl cd_X8_greatestOf ⟨Nat.le_of_ble_eq_true rfl, Nat.le_of_ble_eq_true rfl⟩) hW (mm_recv hW) hS rfl hl.1 rfl (Nat.le_of_ble_eq_true rfl) dX8_triesOf_54 (fun r5 σ4 H locs hw hW hS => ?_)
        exact mmk_triesOf_57  C0   r5 σ4 _ _ _ hw hW hS (lv_sub hl [1] rfl)
      · have hw := hw.1 c7
        refine lv_aload_n hx hb dX8_triesOf_39 rfl (lv_at hl 1 rfl) ?_
        refine mm_getr hx hb hts hown hW 11 7 (by decide) q1282 dX8_triesOf_40 ?_
        refine lv_iconst (v := (2 : Int32)) hx hb dX8_triesOf_43 (by decide) ?_
        refine lv_iload_n hx hb dX8_triesOf_44 rfl (lv_at hl 2 rfl) ?_
        refine lv_imul hx hb dX8_triesOf_45 ?_
        refine lv_iconst (v := (1 : Int32)) hx hb dX8_triesOf_46 (by decide) ?_
        refine lv_iadd hx hb dX8_triesOf_47 ?_
        obtain ⟨hin, hw⟩ := hw
        refine mm_ald hx hb hW 6 (by decide) hin dX8_triesOf_48 ?_
        refine lv_goto (tgt := 57) hx hb dX8_triesOf_49 (by decide) ?_
        exact mmk_triesOf_57  C0   (gg_g σ2 7 (((2 : Int32) * a1) + (1 : Int32)).toNatClampNeg) σ2 _ _ _ hw hW hS (lv_sub hl [1] rfl)
    · have hw := hw.1 c10
      refine lv_aload_n hx hb dX8_triesOf_26 rfl (lv_at hl 1 rfl) ?_
      refine lv_iload_n hx hb dX8_triesOf_27 rfl (lv_at hl 3 rfl) ?_
      refine mm_VI ⟨hx, hb, hml, hown, hts⟩ (mmt_leftOf l _ _ hw) (cwV 1 hts (lw_V q1426 q1428 qs60 q120 q1429) rfl rfl rfl cd_X8_leftOf ⟨Nat.le_of_ble_eq_true rfl, Nat.le_of_ble_eq_true rfl⟩) hW (mm_recv hW) hS rfl hl.1 rfl (Nat.le_of_ble_eq_true rfl) dX8_triesOf_28 (fun r9 σ8 H locs hw hW hS => ?_)
      refine lv_goto (tgt := 57) hx hb dX8_triesOf_31 (by decide) ?_
      exact mmk_triesOf_57  C0   r9 σ8 _ _ _ hw hW hS (lv_sub hl [1] rfl)
  · have hw := hw.1 c11
    refine lv_iload hx hb dX8_triesOf_16 (lv_at hl 0 rfl) ?_
    refine lv_goto (tgt := 57) hx hb dX8_triesOf_18 (by decide) ?_
    exact mmk_triesOf_57  C0   r3 σ2 _ _ _ hw hW hS (lv_sub hl [1] rfl)
theorem cd_X8_tries : yX8_tries.cls = RX8 ∧ yX8_tries.cls ≠ "java/lang/invoke/MethodHandle" ∧ yX8_tries.cls ≠ "java/lang/invoke/VarHandle" ∧ (parseMethodDescriptor yX8_tries.desc).map (fun d => d.parameters.length) = some 3 := by decide +kernel
/-! GleanersForGapsModel.tries(III)I -/
def mmw_tries  (a1 : Int32) (a2 : Int32) (a3 : Int32) (σ : gg_S) (Q : Int32 → gg_S → Prop) : Prop :=
    (mmw_isOne a1 σ (fun r2 σ1 => (((r2 = 0) → Q (-100 : Int32) σ1) ∧ (¬ (r2 = 0) → (mmw_isRow a2 σ1 (fun r4 σ3 => (((r4 = 0) → Q (-100 : Int32) σ3) ∧ (¬ (r4 = 0) → (mmw_in ((a3).toInt64) (0 : Int64) (3 : Int64) σ3 (fun r6 σ5 => (((r6 = 0) → Q (-100 : Int32) σ5) ∧ (¬ (r6 = 0) → (mmw_triesOf a1 a2 a3 σ5 (fun r8 σ7 => Q r8 σ7))))))))))))))
abbrev mmr_tries : Room := { frames := 53, cells := 0, slots := 0, locals := 1232 }
set_option maxHeartbeats 4000000 in
set_option maxRecDepth 100000 in
theorem mmt_tries (l : Launch) {D : va_G} {cl : List vw_C} {E : ClassId × ClassId} {A : Nat → Prop} {ad : Nat → Nat}  (a1 : Int32) (a2 : Int32) (a3 : Int32) (σ : gg_S) {Q : Int32 → gg_S → Prop} (hw : mmw_tries a1 a2 a3 σ Q) :
    Met l yX8_tries (ws_ yX8_tries cX8_tries 4 (some .int)) mmr_tries (va_Pc [.ref (ad 0), .int a1, .int a2, .int a3] (fun U => mm_W D cl E A ad σ U U.heap)) (va_Qi Q (fun u t => mm_W D cl E A ad u t t.heap) A) 0 0 A := by
  refine gg_entry (W0 := fun s H => mm_W D cl E A ad σ s H) (by decide) (Nat.le_of_ble_eq_true rfl) ?_
  intro p e s m args below meth c C0 hW ls hl
  have C0 : gg_C p s m args meth c RX8 cX8_tries 4 (some .int) := C0
  obtain ⟨hx, hb, hml, hown, hts, hr, hlocks⟩ := id C0
  have hl : lv_has ls 4 [(0, .ref (ad 0)), (1, .int a1), (2, .int a2), (3, .int a3)] := hl
  have hS : va_S A s.heap s.heap [] := va_S.rf
  unfold mmw_tries at hw
  refine lv_aload_n hx hb dX8_tries_0 rfl (lv_at hl 0 rfl) ?_
  refine lv_iload_n hx hb dX8_tries_1 rfl (lv_at hl 1 rfl) ?_
  refine mm_VI ⟨hx, hb, hml, hown, hts⟩ (mmt_isOne l _ _ hw) (cwV 1 hts (lw_V q1438 q1440 qs61 q120 q1441) rfl rfl rfl cd_X8_isOne ⟨Nat.le_of_ble_eq_true rfl, Nat.le_of_ble_eq_true rfl⟩) hW (mm_recv hW) hS rfl hl.1 rfl (Nat.le_of_ble_eq_true rfl) dX8_tries_2 (fun r2 σ1 H locs hw hW hS => ?_)
  obtain ⟨hz_r2, hw⟩ := hw
  refine lv_if_eq (tgt := 37) hx hb dX8_tries_5 (by decide) (fun c11 => ?_) (fun c11 => ?_)
  · have hw := hw.1 c11
    refine lv_bipush (v := (-100 : Int32)) hx hb dX8_tries_37 (by decide) ?_
    exact gg_iret (mm_mv D cl E A ad) C0 hW hS hw dX8_tries_39
  · have hw := hw.2 c11
    refine lv_iload_n hx hb dX8_tries_8 rfl (lv_at hl 2 rfl) ?_
    refine mm_SI ⟨hx, hb, hml, hown, hts⟩ (mmt_isRow l _ _ hw) (va_cwS 1 hts (lw_S q1418 q1419 q120 q1420) rfl rfl rfl cd_X8_isRow.2 ⟨Nat.le_of_ble_eq_true rfl, Nat.le_of_ble_eq_true rfl⟩) hW hS rfl hl.1 rfl (Nat.le_of_ble_eq_true rfl) dX8_tries_9 (fun r4 σ3 H locs hw hW hS => ?_)
    obtain ⟨hz_r4, hw⟩ := hw
    refine lv_if_eq (tgt := 37) hx hb dX8_tries_12 (by decide) (fun c10 => ?_) (fun c10 => ?_)
    · have hw := hw.1 c10
      refine lv_bipush (v := (-100 : Int32)) hx hb dX8_tries_37 (by decide) ?_
      exact gg_iret (mm_mv D cl E A ad) C0 hW hS hw dX8_tries_39
    · have hw := hw.2 c10
      refine lv_iload_n hx hb dX8_tries_15 rfl (lv_at hl 3 rfl) ?_
      refine lv_i2l (v := (a3).toInt64) hx hb dX8_tries_16 rfl ?_
      refine lv_lconst (v := (0 : Int64)) hx hb dX8_tries_17 (by decide) ?_
      refine lv_ldc2 (own := RX8) (v := (3 : Int64)) hx hb hown (hts _ q1421) dX8_tries_18 ?_
      refine mm_SI ⟨hx, hb, hml, hown, hts⟩ (mmt_in l _ _ _ _ hw) (va_cwS 3 hts (lw_S q1422 q1423 q120 q1424) rfl rfl rfl cd_X8_in.2 ⟨Nat.le_of_ble_eq_true rfl, Nat.le_of_ble_eq_true rfl⟩) hW hS rfl hl.1 rfl (Nat.le_of_ble_eq_true rfl) dX8_tries_21 (fun r6 σ5 H locs hw hW hS => ?_)
      obtain ⟨hz_r6, hw⟩ := hw
      refine lv_if_eq (tgt := 37) hx hb dX8_tries_24 (by decide) (fun c9 => ?_) (fun c9 => ?_)
      · have hw := hw.1 c9
        refine lv_bipush (v := (-100 : Int32)) hx hb dX8_tries_37 (by decide) ?_
        exact gg_iret (mm_mv D cl E A ad) C0 hW hS hw dX8_tries_39
      · have hw := hw.2 c9
        refine lv_aload_n hx hb dX8_tries_27 rfl (lv_at hl 0 rfl) ?_
        refine lv_iload_n hx hb dX8_tries_28 rfl (lv_at hl 1 rfl) ?_
        refine lv_iload_n hx hb dX8_tries_29 rfl (lv_at hl 2 rfl) ?_
        refine lv_iload_n hx hb dX8_tries_30 rfl (lv_at hl 3 rfl) ?_
        refine mm_VI ⟨hx, hb, hml, hown, hts⟩ (mmt_triesOf l _ _ _ _ hw) (cwV 3 hts (lw_V q1619 q1621 qs91 q120 q1622) rfl rfl rfl cd_X8_triesOf ⟨Nat.le_of_ble_eq_true rfl, Nat.le_of_ble_eq_true rfl⟩) hW (mm_recv hW) hS rfl hl.1 rfl (Nat.le_of_ble_eq_true rfl) dX8_tries_31 (fun r8 σ7 H locs hw hW hS => ?_)
        refine lv_goto (tgt := 39) hx hb dX8_tries_34 (by decide) ?_
        exact gg_iret (mm_mv D cl E A ad) C0 hW hS hw dX8_tries_39
theorem cd_X8_gleanNights : yX8_gleanNights.cls = RX8 ∧ yX8_gleanNights.cls ≠ "java/lang/invoke/MethodHandle" ∧ yX8_gleanNights.cls ≠ "java/lang/invoke/VarHandle" ∧ (parseMethodDescriptor yX8_gleanNights.desc).map (fun d => d.parameters.length) = some 2 := by decide +kernel
/-! GleanersForGapsModel.gleanNights(II)V -/
def mmw_gleanNights_10  (Q : gg_S → Prop) (K2 : Int32 → Int32 → Int32 → gg_S → Prop) : Nat → Int32 → Int32 → Int32 → Int32 → gg_S → Prop
  | 0, _, _, _, _, _ => False
  | n + 1, x1, x2, x3, x4, σ =>
    ((((gg_g σ 0 12) ≤ x4) → (mmw_passes σ (fun σ1 => K2 x1 x2 (x3 + (1 : Int32)) σ1))) ∧ (¬ ((gg_g σ 0 12) ≤ x4) → (mmw_gleans x4 x1 σ (fun r3 σ2 => mmw_gleanNights_10 Q K2 n x1 x2 x3 (x4 + (1 : Int32)) σ2))))
def mmw_gleanNights_2  (Q : gg_S → Prop)  : Nat → Int32 → Int32 → Int32 → gg_S → Prop
  | 0, _, _, _, _ => False
  | n + 1, x1, x2, x3, σ =>
    (((x2 ≤ x3) → Q σ) ∧ (¬ (x2 ≤ x3) → ∃ k9, mmw_gleanNights_10 Q (fun y0 y1 y2 τ => mmw_gleanNights_2 Q n y0 y1 y2 τ) k9 x1 x2 x3 (0 : Int32) σ))
def mmw_gleanNights  (a1 : Int32) (a2 : Int32) (σ : gg_S) (Q : gg_S → Prop) : Prop :=
    ∃ k9, mmw_gleanNights_2 Q k9 a1 a2 (0 : Int32) σ
abbrev mmr_gleanNights : Room := { frames := 52, cells := 0, slots := 0, locals := 1207 }
set_option maxHeartbeats 4000000 in
set_option maxRecDepth 100000 in
theorem mmk_gleanNights_10 {p : Program} {l : Launch} {e : Env} {s : State} {m : MethodId} {args : Array Value} {below : List Frame} {meth : Method} {c : Code} {D : va_G} {cl : List vw_C} {E : ClassId × ClassId} {A : Nat → Prop} {ad : Nat → Nat} {Q : gg_S → Prop} {K2 : Int32 → Int32 → Int32 → gg_S → Prop}  (C0 : gg_C p s m args meth c RX8 cX8_gleanNights 5 none) (hK2 : ∀ (x1 : Int32) (x2 : Int32) (x3 : Int32) (σ : gg_S) (H : Heap) (locs : List Loc) (ls : Array Slot), K2 x1 x2 x3 σ → mm_W D cl E A ad σ s H → va_S A s.heap H locs → lv_has ls 5 [(0, .ref (ad 0)), (1, .int x1), (2, .int x2), (3, .int x3)] → W p l e mmr_gleanNights s m args below meth c H locs 0 0 (MQ below (va_Qv Q (fun u t => mm_W D cl E A ad u t t.heap) A) args s 0 0 A) (F0 m 2 ls [])) :
    ∀ n : Nat, ∀ (x1 : Int32) (x2 : Int32) (x3 : Int32) (x4 : Int32) (σ : gg_S) (H : Heap) (locs : List Loc) (ls : Array Slot), mmw_gleanNights_10 Q K2 n x1 x2 x3 x4 σ → mm_W D cl E A ad σ s H → va_S A s.heap H locs → lv_has ls 5 [(0, .ref (ad 0)), (1, .int x1), (2, .int x2), (3, .int x3), (4, .int x4)] → W p l e mmr_gleanNights s m args below meth c H locs 0 0 (MQ below (va_Qv Q (fun u t => mm_W D cl E A ad u t t.heap) A) args s 0 0 A) (F0 m 10 ls []) := by
  obtain ⟨hx, hb, hml, hown, hts, hr, hlocks⟩ := id C0
  intro n
  induction n with
  | zero =>
    intro x1 x2 x3 x4 σ H locs ls hw hW hS hl
    exact absurd hw (by unfold mmw_gleanNights_10; exact id)
  | succ n ih =>
    intro x1 x2 x3 x4 σ H locs ls hw hW hS hl
    unfold mmw_gleanNights_10 at hw
    refine lv_iload hx hb dX8_gleanNights_10 (lv_at hl 4 rfl) ?_
    refine lv_aload_n hx hb dX8_gleanNights_12 rfl (lv_at hl 0 rfl) ?_
    refine mm_geti hx hb hts hown hW 12 (by decide) q1283 dX8_gleanNights_13 ?_
    refine lv_icmp_ge (tgt := 33) hx hb dX8_gleanNights_16 (by decide) (fun c4 => ?_) (fun c4 => ?_)
    · have hw := hw.1 c4
      refine lv_aload_n hx hb dX8_gleanNights_33 rfl (lv_at hl 0 rfl) ?_
      refine mm_VV ⟨hx, hb, hml, hown, hts⟩ (mmt_passes l _ hw) (cwV 0 hts (lw_V q1607 q1609 qs89 q120 q1610) rfl rfl rfl cd_X8_passes ⟨Nat.le_of_ble_eq_true rfl, Nat.le_of_ble_eq_true rfl⟩) hW (mm_recv hW) hS rfl hl.1 rfl (Nat.le_of_ble_eq_true rfl) dX8_gleanNights_34 (fun σ1 H locs hw hW hS => ?_)
      refine lv_iinc (v := (x3 + (1 : Int32))) (lv' := [(3, .int (x3 + (1 : Int32))), (0, .ref (ad 0)), (1, .int x1), (2, .int x2), (4, .int x4)]) hx hb dX8_gleanNights_37 hl (k := 3) rfl rfl (by decide) rfl (fun ls hl => ?_)
      refine lv_goto (tgt := 2) hx hb dX8_gleanNights_40 (by decide) ?_
      exact hK2 x1 x2 (x3 + (1 : Int32)) σ1 _ _ _ hw hW hS (lv_sub hl [1, 2, 3, 0] rfl)
    · have hw := hw.2 c4
      refine lv_aload_n hx hb dX8_gleanNights_19 rfl (lv_at hl 0 rfl) ?_
      refine lv_iload hx hb dX8_gleanNights_20 (lv_at hl 4 rfl) ?_
      refine lv_iload_n hx hb dX8_gleanNights_22 rfl (lv_at hl 1 rfl) ?_
      refine mm_VI ⟨hx, hb, hml, hown, hts⟩ (mmt_gleans l _ _ _ hw) (cwV 2 hts (lw_V q1587 q1589 qs86 q120 q1590) rfl rfl rfl cd_X8_gleans ⟨Nat.le_of_ble_eq_true rfl, Nat.le_of_ble_eq_true rfl⟩) hW (mm_recv hW) hS rfl hl.1 rfl (Nat.le_of_ble_eq_true rfl) dX8_gleanNights_23 (fun r3 σ2 H locs hw hW hS => ?_)
      refine lv_pop hx hb dX8_gleanNights_26 rfl ?_
      refine lv_iinc (v := (x4 + (1 : Int32))) (lv' := [(4, .int (x4 + (1 : Int32))), (0, .ref (ad 0)), (1, .int x1), (2, .int x2), (3, .int x3)]) hx hb dX8_gleanNights_27 hl (k := 4) rfl rfl (by decide) rfl (fun ls hl => ?_)
      refine lv_goto (tgt := 10) hx hb dX8_gleanNights_30 (by decide) ?_
      exact ih x1 x2 x3 (x4 + (1 : Int32)) σ2 _ _ _ hw hW hS (lv_sub hl [1, 2, 3, 4, 0] rfl)
set_option maxHeartbeats 4000000 in
set_option maxRecDepth 100000 in
theorem mmk_gleanNights_2 {p : Program} {l : Launch} {e : Env} {s : State} {m : MethodId} {args : Array Value} {below : List Frame} {meth : Method} {c : Code} {D : va_G} {cl : List vw_C} {E : ClassId × ClassId} {A : Nat → Prop} {ad : Nat → Nat} {Q : gg_S → Prop}   (C0 : gg_C p s m args meth c RX8 cX8_gleanNights 5 none)  :
    ∀ n : Nat, ∀ (x1 : Int32) (x2 : Int32) (x3 : Int32) (σ : gg_S) (H : Heap) (locs : List Loc) (ls : Array Slot), mmw_gleanNights_2 Q n x1 x2 x3 σ → mm_W D cl E A ad σ s H → va_S A s.heap H locs → lv_has ls 5 [(0, .ref (ad 0)), (1, .int x1), (2, .int x2), (3, .int x3)] → W p l e mmr_gleanNights s m args below meth c H locs 0 0 (MQ below (va_Qv Q (fun u t => mm_W D cl E A ad u t t.heap) A) args s 0 0 A) (F0 m 2 ls []) := by
  obtain ⟨hx, hb, hml, hown, hts, hr, hlocks⟩ := id C0
  intro n
  induction n with
  | zero =>
    intro x1 x2 x3 σ H locs ls hw hW hS hl
    exact absurd hw (by unfold mmw_gleanNights_2; exact id)
  | succ n ih =>
    intro x1 x2 x3 σ H locs ls hw hW hS hl
    unfold mmw_gleanNights_2 at hw
    refine lv_iload_n hx hb dX8_gleanNights_2 rfl (lv_at hl 3 rfl) ?_
    refine lv_iload_n hx hb dX8_gleanNights_3 rfl (lv_at hl 2 rfl) ?_
    refine lv_icmp_ge (tgt := 43) hx hb dX8_gleanNights_4 (by decide) (fun c5 => ?_) (fun c5 => ?_)
    · have hw := hw.1 c5
      exact gg_vret (mm_mv D cl E A ad) C0 hW hS hw dX8_gleanNights_43
    · have hw := hw.2 c5
      refine lv_iconst (v := (0 : Int32)) hx hb dX8_gleanNights_7 (by decide) ?_
      refine lv_istore (lv' := [(4, .int (0 : Int32)), (0, .ref (ad 0)), (1, .int x1), (2, .int x2), (3, .int x3)]) hx hb dX8_gleanNights_8 hl (by decide) rfl (fun ls hl => ?_)
      obtain ⟨n9, hw⟩ := hw
      exact mmk_gleanNights_10  C0  (fun y0 y1 y2 τ H9 l9 s9 => ih y0 y1 y2 τ H9 l9 s9) n9 x1 x2 x3 (0 : Int32) σ _ _ _ hw hW hS (lv_sub hl [1, 2, 3, 4, 0] rfl)
set_option maxHeartbeats 4000000 in
set_option maxRecDepth 100000 in
theorem mmt_gleanNights (l : Launch) {D : va_G} {cl : List vw_C} {E : ClassId × ClassId} {A : Nat → Prop} {ad : Nat → Nat}  (a1 : Int32) (a2 : Int32) (σ : gg_S) {Q : gg_S → Prop} (hw : mmw_gleanNights a1 a2 σ Q) :
    Met l yX8_gleanNights (ws_ yX8_gleanNights cX8_gleanNights 5 none) mmr_gleanNights (va_Pc [.ref (ad 0), .int a1, .int a2] (fun U => mm_W D cl E A ad σ U U.heap)) (va_Qv Q (fun u t => mm_W D cl E A ad u t t.heap) A) 0 0 A := by
  refine gg_entry (W0 := fun s H => mm_W D cl E A ad σ s H) (by decide) (Nat.le_of_ble_eq_true rfl) ?_
  intro p e s m args below meth c C0 hW ls hl
  have C0 : gg_C p s m args meth c RX8 cX8_gleanNights 5 none := C0
  obtain ⟨hx, hb, hml, hown, hts, hr, hlocks⟩ := id C0
  have hl : lv_has ls 5 [(0, .ref (ad 0)), (1, .int a1), (2, .int a2)] := hl
  have hS : va_S A s.heap s.heap [] := va_S.rf
  unfold mmw_gleanNights at hw
  refine lv_iconst (v := (0 : Int32)) hx hb dX8_gleanNights_0 (by decide) ?_
  refine lv_istore_n (lv' := [(3, .int (0 : Int32)), (0, .ref (ad 0)), (1, .int a1), (2, .int a2)]) hx hb dX8_gleanNights_1 rfl hl (by decide) rfl (fun ls hl => ?_)
  obtain ⟨n9, hw⟩ := hw
  exact mmk_gleanNights_2  C0   n9 a1 a2 (0 : Int32) σ _ _ _ hw hW hS (lv_sub hl [1, 2, 3, 0] rfl)
theorem cd_X8_nights : yX8_nights.cls = RX8 ∧ yX8_nights.cls ≠ "java/lang/invoke/MethodHandle" ∧ yX8_nights.cls ≠ "java/lang/invoke/VarHandle" ∧ (parseMethodDescriptor yX8_nights.desc).map (fun d => d.parameters.length) = some 4 := by decide +kernel
/-! GleanersForGapsModel.nights(IIII)I -/
def mmw_nights_74  (Q : Int32 → gg_S → Prop)  (s0 : Int32) (σ : gg_S) : Prop :=
    (mmw_laysBack σ (fun σ13 => Q s0 σ13))
def mmw_nights  (a1 : Int32) (a2 : Int32) (a3 : Int32) (a4 : Int32) (σ : gg_S) (Q : Int32 → gg_S → Prop) : Prop :=
    (mmw_isOne a1 σ (fun r2 σ1 => (((r2 = 0) → Q (-2 : Int32) σ1) ∧ (¬ (r2 = 0) → (mmw_isRow a2 σ1 (fun r4 σ3 => (((r4 = 0) → Q (-2 : Int32) σ3) ∧ (¬ (r4 = 0) → (mmw_in ((a3).toInt64) (0 : Int64) (20 : Int64) σ3 (fun r6 σ5 => (((r6 = 0) → Q (-2 : Int32) σ5) ∧ (¬ (r6 = 0) → (mmw_in ((a4).toInt64) (0 : Int64) (1 : Int64) σ5 (fun r8 σ7 => (((r8 = 0) → Q (-2 : Int32) σ7) ∧ (¬ (r8 = 0) → (mmw_laysAside σ7 (fun σ9 => (mmw_gleanNights a2 a3 σ9 (fun σ10 => (((a4 = 0) → vp_in (((2 : Int32) * a1) + (1 : Int32)) 10 ∧ mmw_nights_74 Q (gg_g σ10 7 (((2 : Int32) * a1) + (1 : Int32)).toNatClampNeg) σ10) ∧ (¬ (a4 = 0) → (mmw_leftOf a2 σ10 (fun r12 σ11 => mmw_nights_74 Q r12 σ11))))))))))))))))))))))))
abbrev mmr_nights : Room := { frames := 53, cells := 0, slots := 0, locals := 1231 }
set_option maxHeartbeats 4000000 in
set_option maxRecDepth 100000 in
theorem mmk_nights_74 {p : Program} {l : Launch} {e : Env} {s : State} {m : MethodId} {args : Array Value} {below : List Frame} {meth : Method} {c : Code} {D : va_G} {cl : List vw_C} {E : ClassId × ClassId} {A : Nat → Prop} {ad : Nat → Nat} {Q : Int32 → gg_S → Prop}   (C0 : gg_C p s m args meth c RX8 cX8_nights 6 (some .int))  :
    ∀ (s0 : Int32) (σ : gg_S) (H : Heap) (locs : List Loc) (ls : Array Slot), mmw_nights_74 Q s0 σ → mm_W D cl E A ad σ s H → va_S A s.heap H locs → lv_has ls 6 [(0, .ref (ad 0))] → W p l e mmr_nights s m args below meth c H locs 0 0 (MQ below (va_Qi Q (fun u t => mm_W D cl E A ad u t t.heap) A) args s 0 0 A) (F0 m 74 ls [.int s0]) := by
  obtain ⟨hx, hb, hml, hown, hts, hr, hlocks⟩ := id C0
  intro s0 σ H locs ls hw hW hS hl
  unfold mmw_nights_74 at hw
  refine lv_istore (lv' := [(5, .int s0), (0, .ref (ad 0))]) hx hb dX8_nights_74 hl (by decide) rfl (fun ls hl => ?_)
  refine lv_aload_n hx hb dX8_nights_76 rfl (lv_at hl 1 rfl) ?_
  refine mm_VV ⟨hx, hb, hml, hown, hts⟩ (mmt_laysBack l _ hw) (cwV 0 hts (lw_V q1627 q1629 qs93 q120 q1630) rfl rfl rfl cd_X8_laysBack ⟨Nat.le_of_ble_eq_true rfl, Nat.le_of_ble_eq_true rfl⟩) hW (mm_recv hW) hS rfl hl.1 rfl (Nat.le_of_ble_eq_true rfl) dX8_nights_77 (fun σ13 H locs hw hW hS => ?_)
  refine lv_iload hx hb dX8_nights_80 (lv_at hl 0 rfl) ?_
  exact gg_iret (mm_mv D cl E A ad) C0 hW hS hw dX8_nights_82
set_option maxHeartbeats 4000000 in
set_option maxRecDepth 100000 in
theorem mmt_nights (l : Launch) {D : va_G} {cl : List vw_C} {E : ClassId × ClassId} {A : Nat → Prop} {ad : Nat → Nat}  (a1 : Int32) (a2 : Int32) (a3 : Int32) (a4 : Int32) (σ : gg_S) {Q : Int32 → gg_S → Prop} (hw : mmw_nights a1 a2 a3 a4 σ Q) :
    Met l yX8_nights (ws_ yX8_nights cX8_nights 6 (some .int)) mmr_nights (va_Pc [.ref (ad 0), .int a1, .int a2, .int a3, .int a4] (fun U => mm_W D cl E A ad σ U U.heap)) (va_Qi Q (fun u t => mm_W D cl E A ad u t t.heap) A) 0 0 A := by
  refine gg_entry (W0 := fun s H => mm_W D cl E A ad σ s H) (by decide) (Nat.le_of_ble_eq_true rfl) ?_
  intro p e s m args below meth c C0 hW ls hl
  have C0 : gg_C p s m args meth c RX8 cX8_nights 6 (some .int) := C0
  obtain ⟨hx, hb, hml, hown, hts, hr, hlocks⟩ := id C0
  have hl : lv_has ls 6 [(0, .ref (ad 0)), (1, .int a1), (2, .int a2), (3, .int a3), (4, .int a4)] := hl
  have hS : va_S A s.heap s.heap [] := va_S.rf
  unfold mmw_nights at hw
  refine lv_aload_n hx hb dX8_nights_0 rfl (lv_at hl 0 rfl) ?_
  refine lv_iload_n hx hb dX8_nights_1 rfl (lv_at hl 1 rfl) ?_
  refine mm_VI ⟨hx, hb, hml, hown, hts⟩ (mmt_isOne l _ _ hw) (cwV 1 hts (lw_V q1438 q1440 qs61 q120 q1441) rfl rfl rfl cd_X8_isOne ⟨Nat.le_of_ble_eq_true rfl, Nat.le_of_ble_eq_true rfl⟩) hW (mm_recv hW) hS rfl hl.1 rfl (Nat.le_of_ble_eq_true rfl) dX8_nights_2 (fun r2 σ1 H locs hw hW hS => ?_)
  obtain ⟨hz_r2, hw⟩ := hw
  refine lv_if_eq (tgt := 38) hx hb dX8_nights_5 (by decide) (fun c18 => ?_) (fun c18 => ?_)
  · have hw := hw.1 c18
    refine lv_bipush (v := (-2 : Int32)) hx hb dX8_nights_38 (by decide) ?_
    exact gg_iret (mm_mv D cl E A ad) C0 hW hS hw dX8_nights_40
  · have hw := hw.2 c18
    refine lv_iload_n hx hb dX8_nights_8 rfl (lv_at hl 2 rfl) ?_
    refine mm_SI ⟨hx, hb, hml, hown, hts⟩ (mmt_isRow l _ _ hw) (va_cwS 1 hts (lw_S q1418 q1419 q120 q1420) rfl rfl rfl cd_X8_isRow.2 ⟨Nat.le_of_ble_eq_true rfl, Nat.le_of_ble_eq_true rfl⟩) hW hS rfl hl.1 rfl (Nat.le_of_ble_eq_true rfl) dX8_nights_9 (fun r4 σ3 H locs hw hW hS => ?_)
    obtain ⟨hz_r4, hw⟩ := hw
    refine lv_if_eq (tgt := 38) hx hb dX8_nights_12 (by decide) (fun c17 => ?_) (fun c17 => ?_)
    · have hw := hw.1 c17
      refine lv_bipush (v := (-2 : Int32)) hx hb dX8_nights_38 (by decide) ?_
      exact gg_iret (mm_mv D cl E A ad) C0 hW hS hw dX8_nights_40
    · have hw := hw.2 c17
      refine lv_iload_n hx hb dX8_nights_15 rfl (lv_at hl 3 rfl) ?_
      refine lv_i2l (v := (a3).toInt64) hx hb dX8_nights_16 rfl ?_
      refine lv_lconst (v := (0 : Int64)) hx hb dX8_nights_17 (by decide) ?_
      refine lv_ldc2 (own := RX8) (v := (20 : Int64)) hx hb hown (hts _ q1635) dX8_nights_18 ?_
      refine mm_SI ⟨hx, hb, hml, hown, hts⟩ (mmt_in l _ _ _ _ hw) (va_cwS 3 hts (lw_S q1422 q1423 q120 q1424) rfl rfl rfl cd_X8_in.2 ⟨Nat.le_of_ble_eq_true rfl, Nat.le_of_ble_eq_true rfl⟩) hW hS rfl hl.1 rfl (Nat.le_of_ble_eq_true rfl) dX8_nights_21 (fun r6 σ5 H locs hw hW hS => ?_)
      obtain ⟨hz_r6, hw⟩ := hw
      refine lv_if_eq (tgt := 38) hx hb dX8_nights_24 (by decide) (fun c16 => ?_) (fun c16 => ?_)
      · have hw := hw.1 c16
        refine lv_bipush (v := (-2 : Int32)) hx hb dX8_nights_38 (by decide) ?_
        exact gg_iret (mm_mv D cl E A ad) C0 hW hS hw dX8_nights_40
      · have hw := hw.2 c16
        refine lv_iload hx hb dX8_nights_27 (lv_at hl 4 rfl) ?_
        refine lv_i2l (v := (a4).toInt64) hx hb dX8_nights_29 rfl ?_
        refine lv_lconst (v := (0 : Int64)) hx hb dX8_nights_30 (by decide) ?_
        refine lv_lconst (v := (1 : Int64)) hx hb dX8_nights_31 (by decide) ?_
        refine mm_SI ⟨hx, hb, hml, hown, hts⟩ (mmt_in l _ _ _ _ hw) (va_cwS 3 hts (lw_S q1422 q1423 q120 q1424) rfl rfl rfl cd_X8_in.2 ⟨Nat.le_of_ble_eq_true rfl, Nat.le_of_ble_eq_true rfl⟩) hW hS rfl hl.1 rfl (Nat.le_of_ble_eq_true rfl) dX8_nights_32 (fun r8 σ7 H locs hw hW hS => ?_)
        obtain ⟨hz_r8, hw⟩ := hw
        refine lv_if_ne (tgt := 41) hx hb dX8_nights_35 (by decide) (fun c15 => ?_) (fun c15 => ?_)
        · have hw := hw.2 c15
          refine lv_aload_n hx hb dX8_nights_41 rfl (lv_at hl 0 rfl) ?_
          refine mm_VV ⟨hx, hb, hml, hown, hts⟩ (mmt_laysAside l _ hw) (cwV 0 hts (lw_V q1623 q1625 qs92 q120 q1626) rfl rfl rfl cd_X8_laysAside ⟨Nat.le_of_ble_eq_true rfl, Nat.le_of_ble_eq_true rfl⟩) hW (mm_recv hW) hS rfl hl.1 rfl (Nat.le_of_ble_eq_true rfl) dX8_nights_42 (fun σ9 H locs hw hW hS => ?_)
          refine lv_aload_n hx hb dX8_nights_45 rfl (lv_at hl 0 rfl) ?_
          refine lv_iload_n hx hb dX8_nights_46 rfl (lv_at hl 2 rfl) ?_
          refine lv_iload_n hx hb dX8_nights_47 rfl (lv_at hl 3 rfl) ?_
          refine mm_VV ⟨hx, hb, hml, hown, hts⟩ (mmt_gleanNights l _ _ _ hw) (cwV 2 hts (lw_V q1636 q1638 qs94 q120 q1639) rfl rfl rfl cd_X8_gleanNights ⟨Nat.le_of_ble_eq_true rfl, Nat.le_of_ble_eq_true rfl⟩) hW (mm_recv hW) hS rfl hl.1 rfl (Nat.le_of_ble_eq_true rfl) dX8_nights_48 (fun σ10 H locs hw hW hS => ?_)
          refine lv_iload hx hb dX8_nights_51 (lv_at hl 4 rfl) ?_
          refine lv_if_ne (tgt := 69) hx hb dX8_nights_53 (by decide) (fun c14 => ?_) (fun c14 => ?_)
          · have hw := hw.2 c14
            refine lv_aload_n hx hb dX8_nights_69 rfl (lv_at hl 0 rfl) ?_
            refine lv_iload_n hx hb dX8_nights_70 rfl (lv_at hl 2 rfl) ?_
            refine mm_VI ⟨hx, hb, hml, hown, hts⟩ (mmt_leftOf l _ _ hw) (cwV 1 hts (lw_V q1426 q1428 qs60 q120 q1429) rfl rfl rfl cd_X8_leftOf ⟨Nat.le_of_ble_eq_true rfl, Nat.le_of_ble_eq_true rfl⟩) hW (mm_recv hW) hS rfl hl.1 rfl (Nat.le_of_ble_eq_true rfl) dX8_nights_71 (fun r12 σ11 H locs hw hW hS => ?_)
            exact mmk_nights_74  C0   r12 σ11 _ _ _ hw hW hS (lv_sub hl [0] rfl)
          · have hw := hw.1 c14
            refine lv_aload_n hx hb dX8_nights_56 rfl (lv_at hl 0 rfl) ?_
            refine mm_getr hx hb hts hown hW 11 7 (by decide) q1282 dX8_nights_57 ?_
            refine lv_iconst (v := (2 : Int32)) hx hb dX8_nights_60 (by decide) ?_
            refine lv_iload_n hx hb dX8_nights_61 rfl (lv_at hl 1 rfl) ?_
            refine lv_imul hx hb dX8_nights_62 ?_
            refine lv_iconst (v := (1 : Int32)) hx hb dX8_nights_63 (by decide) ?_
            refine lv_iadd hx hb dX8_nights_64 ?_
            obtain ⟨hin, hw⟩ := hw
            refine mm_ald hx hb hW 6 (by decide) hin dX8_nights_65 ?_
            refine lv_goto (tgt := 74) hx hb dX8_nights_66 (by decide) ?_
            exact mmk_nights_74  C0   (gg_g σ10 7 (((2 : Int32) * a1) + (1 : Int32)).toNatClampNeg) σ10 _ _ _ hw hW hS (lv_sub hl [0] rfl)
        · have hw := hw.1 c15
          refine lv_bipush (v := (-2 : Int32)) hx hb dX8_nights_38 (by decide) ?_
          exact gg_iret (mm_mv D cl E A ad) C0 hW hS hw dX8_nights_40
def mmr_g_orders (d : Nat) : Room := { frames := 52 + d, cells := 0, slots := 0, locals := 1207 + 30 * d }
theorem cd_X8_orders : yX8_orders.cls = RX8 ∧ yX8_orders.cls ≠ "java/lang/invoke/MethodHandle" ∧ yX8_orders.cls ≠ "java/lang/invoke/VarHandle" ∧ (parseMethodDescriptor yX8_orders.desc).map (fun d => d.parameters.length) = some 5 := by decide +kernel
/-! GleanersForGapsModel.orders(IIIII)V -/
def mmw_orders_151 (G : Int32 → Int32 → Int32 → Int32 → Int32 → gg_S → (gg_S → Prop) → Prop) (Q : gg_S → Prop) (K79 : Int32 → Int32 → Int32 → Int32 → Int32 → Int32 → Int32 → Int32 → gg_S → Prop) (x1 : Int32) (x2 : Int32) (x3 : Int32) (x4 : Int32) (x5 : Int32) (x6 : Int32) (x7 : Int32) (x8 : Int32) (x9 : Int32) (s1 : Int32) (s2 : Int32) (s3 : Int32) (s4 : Int32) (s5 : Int32) (σ : gg_S) : Prop :=
    (G s1 s2 s3 s4 s5 σ (fun σ3 => vp_in x1 5 ∧ (∀ σ4 : gg_S, σ4 = gg_s σ3 4 x1.toNatClampNeg x6 → vp_in x1 5 ∧ (∀ σ5 : gg_S, σ5 = gg_s σ4 5 x1.toNatClampNeg x7 → vp_in (((2 : Int32) * x8) + (1 : Int32)) 10 ∧ (∀ σ6 : gg_S, σ6 = gg_s σ5 7 (((2 : Int32) * x8) + (1 : Int32)).toNatClampNeg x9 → K79 x1 x2 x3 x4 x5 x6 x7 (x8 + (1 : Int32)) σ6)))))
def mmw_orders_79 (G : Int32 → Int32 → Int32 → Int32 → Int32 → gg_S → (gg_S → Prop) → Prop) (Q : gg_S → Prop)  : Nat → Int32 → Int32 → Int32 → Int32 → Int32 → Int32 → Int32 → Int32 → gg_S → Prop
  | 0, _, _, _, _, _, _, _, _, _ => False
  | n + 1, x1, x2, x3, x4, x5, x6, x7, x8, σ =>
    ((((gg_g σ 0 12) ≤ x8) → Q σ) ∧ (¬ ((gg_g σ 0 12) ≤ x8) → (((((x3 >>> (x8 &&& 31)) &&& (1 : Int32)) = 0) → vp_in (((2 : Int32) * x8) + (1 : Int32)) 10 ∧ (mmw_gleans x8 x1 σ (fun r2 σ1 => (((x8 = x2) → mmw_orders_151 G Q (fun y0 y1 y2 y3 y4 y5 y6 y7 τ => mmw_orders_79 G Q n y0 y1 y2 y3 y4 y5 y6 y7 τ) x1 x2 x3 x4 x5 x6 x7 x8 (gg_g σ 7 (((2 : Int32) * x8) + (1 : Int32)).toNatClampNeg) x1 x2 (x3 ||| ((1 : Int32) <<< (x8 &&& 31))) ((((10 : Int32) * x4) + x8) + (1 : Int32)) r2 σ1) ∧ (¬ (x8 = x2) → mmw_orders_151 G Q (fun y0 y1 y2 y3 y4 y5 y6 y7 τ => mmw_orders_79 G Q n y0 y1 y2 y3 y4 y5 y6 y7 τ) x1 x2 x3 x4 x5 x6 x7 x8 (gg_g σ 7 (((2 : Int32) * x8) + (1 : Int32)).toNatClampNeg) x1 x2 (x3 ||| ((1 : Int32) <<< (x8 &&& 31))) ((((10 : Int32) * x4) + x8) + (1 : Int32)) x5 σ1))))) ∧ (¬ (((x3 >>> (x8 &&& 31)) &&& (1 : Int32)) = 0) → mmw_orders_79 G Q n x1 x2 x3 x4 x5 x6 x7 (x8 + (1 : Int32)) σ))))
def mmw_orders_47 (G : Int32 → Int32 → Int32 → Int32 → Int32 → gg_S → (gg_S → Prop) → Prop) (Q : gg_S → Prop)  (x4 : Int32) (x6 : Int32) (σ : gg_S) : Prop :=
    (∀ σ10 : gg_S, σ10 = gg_s σ 0 35 x4 → (∀ σ11 : gg_S, σ11 = gg_s σ10 0 36 x6 → Q σ11))
def mmw_orders_28 (G : Int32 → Int32 → Int32 → Int32 → Int32 → gg_S → (gg_S → Prop) → Prop) (Q : gg_S → Prop)  (x4 : Int32) (s0 : Int32) (σ : gg_S) : Prop :=
    ((((gg_g σ 0 35) = (-1 : Int32)) → mmw_orders_47 G Q x4 s0 σ) ∧ (¬ ((gg_g σ 0 35) = (-1 : Int32)) → (((s0 ≤ (gg_g σ 0 36)) → Q σ) ∧ (¬ (s0 ≤ (gg_g σ 0 36)) → mmw_orders_47 G Q x4 s0 σ))))
def mmw_orders (G : Int32 → Int32 → Int32 → Int32 → Int32 → gg_S → (gg_S → Prop) → Prop) (a1 : Int32) (a2 : Int32) (a3 : Int32) (a4 : Int32) (a5 : Int32) (σ : gg_S) (Q : gg_S → Prop) : Prop :=
    (((a3 = (((1 : Int32) <<< ((gg_g σ 0 12) &&& 31)) - (1 : Int32))) → (((a2 = (-1 : Int32)) → (mmw_leftOf a1 σ (fun r15 σ14 => mmw_orders_28 G Q a4 (-r15) σ14))) ∧ (¬ (a2 = (-1 : Int32)) → mmw_orders_28 G Q a4 a5 σ))) ∧ (¬ (a3 = (((1 : Int32) <<< ((gg_g σ 0 12) &&& 31)) - (1 : Int32))) → vp_in a1 5 ∧ vp_in a1 5 ∧ ∃ k9, mmw_orders_79 G Q k9 a1 a2 a3 a4 a5 (gg_g σ 4 a1.toNatClampNeg) (gg_g σ 5 a1.toNatClampNeg) (0 : Int32) σ))
set_option maxHeartbeats 4000000 in
set_option maxRecDepth 100000 in
theorem mmk_orders_151 {p : Program} {l : Launch} {e : Env} {s : State} {m : MethodId} {args : Array Value} {below : List Frame} {meth : Method} {c : Code} {d : Nat} {G : Int32 → Int32 → Int32 → Int32 → Int32 → gg_S → (gg_S → Prop) → Prop} {D : va_G} {cl : List vw_C} {E : ClassId × ClassId} {A : Nat → Prop} {ad : Nat → Nat} {Q : gg_S → Prop} {K79 : Int32 → Int32 → Int32 → Int32 → Int32 → Int32 → Int32 → Int32 → gg_S → Prop} (hG_orders : ∀ (b0 : Int32) (b1 : Int32) (b2 : Int32) (b3 : Int32) (b4 : Int32) (σ : gg_S) (Q : gg_S → Prop), G b0 b1 b2 b3 b4 σ Q → Met l yX8_orders (ws_ yX8_orders cX8_orders 11 none) (mmr_g_orders d) (va_Pc [.ref (ad 0), .int b0, .int b1, .int b2, .int b3, .int b4] (fun U => mm_W D cl E A ad σ U U.heap)) (va_Qv Q (fun u t => mm_W D cl E A ad u t t.heap) A) 0 0 A) (C0 : gg_C p s m args meth c RX8 cX8_orders 11 none) (hK79 : ∀ (x1 : Int32) (x2 : Int32) (x3 : Int32) (x4 : Int32) (x5 : Int32) (x6 : Int32) (x7 : Int32) (x8 : Int32) (σ : gg_S) (H : Heap) (locs : List Loc) (ls : Array Slot), K79 x1 x2 x3 x4 x5 x6 x7 x8 σ → mm_W D cl E A ad σ s H → va_S A s.heap H locs → lv_has ls 11 [(0, .ref (ad 0)), (1, .int x1), (2, .int x2), (3, .int x3), (4, .int x4), (5, .int x5), (6, .int x6), (7, .int x7), (8, .int x8)] → W p l e (mmr_g_orders (d + 1)) s m args below meth c H locs 0 0 (MQ below (va_Qv Q (fun u t => mm_W D cl E A ad u t t.heap) A) args s 0 0 A) (F0 m 79 ls [])) :
    ∀ (x1 : Int32) (x2 : Int32) (x3 : Int32) (x4 : Int32) (x5 : Int32) (x6 : Int32) (x7 : Int32) (x8 : Int32) (x9 : Int32) (s1 : Int32) (s2 : Int32) (s3 : Int32) (s4 : Int32) (s5 : Int32) (σ : gg_S) (H : Heap) (locs : List Loc) (ls : Array Slot), mmw_orders_151 G Q K79 x1 x2 x3 x4 x5 x6 x7 x8 x9 s1 s2 s3 s4 s5 σ → mm_W D cl E A ad σ s H → va_S A s.heap H locs → lv_has ls 11 [(0, .ref (ad 0)), (1, .int x1), (2, .int x2), (3, .int x3), (4, .int x4), (5, .int x5), (6, .int x6), (7, .int x7), (8, .int x8), (9, .int x9)] → W p l e (mmr_g_orders (d + 1)) s m args below meth c H locs 0 0 (MQ below (va_Qv Q (fun u t => mm_W D cl E A ad u t t.heap) A) args s 0 0 A) (F0 m 151 ls [.int s5, .int s4, .int s3, .int s2, .int s1, .ref (ad 0)]) := by
  obtain ⟨hx, hb, hml, hown, hts, hr, hlocks⟩ := id C0
  intro x1 x2 x3 x4 x5 x6 x7 x8 x9 s1 s2 s3 s4 s5 σ H locs ls hw hW hS hl
  unfold mmw_orders_151 at hw
  refine mm_VV ⟨hx, hb, hml, hown, hts⟩ (hG_orders _ _ _ _ _ _ _ hw) (cwV 5 hts (lw_V q1644 q1646 qs95 q120 q1647) rfl rfl rfl cd_X8_orders ⟨by simp only [mmr_g_orders]; omega, by simp only [mmr_g_orders]; omega⟩) hW (mm_recv hW) hS rfl hl.1 rfl (Nat.le_of_ble_eq_true rfl) dX8_orders_151 (fun σ3 H locs hw hW hS => ?_)
  refine lv_aload_n hx hb dX8_orders_154 rfl (lv_at hl 0 rfl) ?_
  refine mm_getr hx hb hts hown hW 8 4 (by decide) q1279 dX8_orders_155 ?_
  refine lv_iload_n hx hb dX8_orders_158 rfl (lv_at hl 1 rfl) ?_
  refine lv_iload hx hb dX8_orders_159 (lv_at hl 6 rfl) ?_
  obtain ⟨hin, hw⟩ := hw
  refine mm_ast hx hb hW hS 3 (by decide) hin dX8_orders_161 (fun H locs hW hS => ?_)
  obtain ⟨σ4, eσ4⟩ : ∃ z, z = gg_s σ3 4 x1.toNatClampNeg x6 := ⟨_, rfl⟩
  rw [← eσ4] at hW
  have hw := hw σ4 eσ4
  refine lv_aload_n hx hb dX8_orders_162 rfl (lv_at hl 0 rfl) ?_
  refine mm_getr hx hb hts hown hW 9 5 (by decide) q1280 dX8_orders_163 ?_
  refine lv_iload_n hx hb dX8_orders_166 rfl (lv_at hl 1 rfl) ?_
  refine lv_iload hx hb dX8_orders_167 (lv_at hl 7 rfl) ?_
  obtain ⟨hin, hw⟩ := hw
  refine mm_ast hx hb hW hS 4 (by decide) hin dX8_orders_169 (fun H locs hW hS => ?_)
  obtain ⟨σ5, eσ5⟩ : ∃ z, z = gg_s σ4 5 x1.toNatClampNeg x7 := ⟨_, rfl⟩
  rw [← eσ5] at hW
  have hw := hw σ5 eσ5
  refine lv_aload_n hx hb dX8_orders_170 rfl (lv_at hl 0 rfl) ?_
  refine mm_getr hx hb hts hown hW 11 7 (by decide) q1282 dX8_orders_171 ?_
  refine lv_iconst (v := (2 : Int32)) hx hb dX8_orders_174 (by decide) ?_
  refine lv_iload hx hb dX8_orders_175 (lv_at hl 8 rfl) ?_
  refine lv_imul hx hb dX8_orders_177 ?_
  refine lv_iconst (v := (1 : Int32)) hx hb dX8_orders_178 (by decide) ?_
  refine lv_iadd hx hb dX8_orders_179 ?_
  refine lv_iload hx hb dX8_orders_180 (lv_at hl 9 rfl) ?_
  obtain ⟨hin, hw⟩ := hw
  refine mm_ast hx hb hW hS 6 (by decide) hin dX8_orders_182 (fun H locs hW hS => ?_)
  obtain ⟨σ6, eσ6⟩ : ∃ z, z = gg_s σ5 7 (((2 : Int32) * x8) + (1 : Int32)).toNatClampNeg x9 := ⟨_, rfl⟩
  rw [← eσ6] at hW
  have hw := hw σ6 eσ6
  refine lv_iinc (v := (x8 + (1 : Int32))) (lv' := [(8, .int (x8 + (1 : Int32))), (0, .ref (ad 0)), (1, .int x1), (2, .int x2), (3, .int x3), (4, .int x4), (5, .int x5), (6, .int x6), (7, .int x7), (9, .int x9)]) hx hb dX8_orders_183 hl (k := 8) rfl rfl (by decide) rfl (fun ls hl => ?_)
  refine lv_goto (tgt := 79) hx hb dX8_orders_186 (by decide) ?_
  exact hK79 x1 x2 x3 x4 x5 x6 x7 (x8 + (1 : Int32)) σ6 _ _ _ hw hW hS (lv_sub hl [1, 2, 3, 4, 5, 6, 7, 8, 0] rfl)
set_option maxHeartbeats 4000000 in
set_option maxRecDepth 100000 in
theorem mmk_orders_79 {p : Program} {l : Launch} {e : Env} {s : State} {m : MethodId} {args : Array Value} {below : List Frame} {meth : Method} {c : Code} {d : Nat} {G : Int32 → Int32 → Int32 → Int32 → Int32 → gg_S → (gg_S → Prop) → Prop} {D : va_G} {cl : List vw_C} {E : ClassId × ClassId} {A : Nat → Prop} {ad : Nat → Nat} {Q : gg_S → Prop}  (hG_orders : ∀ (b0 : Int32) (b1 : Int32) (b2 : Int32) (b3 : Int32) (b4 : Int32) (σ : gg_S) (Q : gg_S → Prop), G b0 b1 b2 b3 b4 σ Q → Met l yX8_orders (ws_ yX8_orders cX8_orders 11 none) (mmr_g_orders d) (va_Pc [.ref (ad 0), .int b0, .int b1, .int b2, .int b3, .int b4] (fun U => mm_W D cl E A ad σ U U.heap)) (va_Qv Q (fun u t => mm_W D cl E A ad u t t.heap) A) 0 0 A) (C0 : gg_C p s m args meth c RX8 cX8_orders 11 none)  :
    ∀ n : Nat, ∀ (x1 : Int32) (x2 : Int32) (x3 : Int32) (x4 : Int32) (x5 : Int32) (x6 : Int32) (x7 : Int32) (x8 : Int32) (σ : gg_S) (H : Heap) (locs : List Loc) (ls : Array Slot), mmw_orders_79 G Q n x1 x2 x3 x4 x5 x6 x7 x8 σ → mm_W D cl E A ad σ s H → va_S A s.heap H locs → lv_has ls 11 [(0, .ref (ad 0)), (1, .int x1), (2, .int x2), (3, .int x3), (4, .int x4), (5, .int x5), (6, .int x6), (7, .int x7), (8, .int x8)] → W p l e (mmr_g_orders (d + 1)) s m args below meth c H locs 0 0 (MQ below (va_Qv Q (fun u t => mm_W D cl E A ad u t t.heap) A) args s 0 0 A) (F0 m 79 ls []) := by
  obtain ⟨hx, hb, hml, hown, hts, hr, hlocks⟩ := id C0
  intro n
  induction n with
  | zero =>
    intro x1 x2 x3 x4 x5 x6 x7 x8 σ H locs ls hw hW hS hl
    exact absurd hw (by unfold mmw_orders_79; exact id)
  | succ n ih =>
    intro x1 x2 x3 x4 x5 x6 x7 x8 σ H locs ls hw hW hS hl
    unfold mmw_orders_79 at hw
    refine lv_iload hx hb dX8_orders_79 (lv_at hl 8 rfl) ?_
    refine lv_aload_n hx hb dX8_orders_81 rfl (lv_at hl 0 rfl) ?_
    refine mm_geti hx hb hts hown hW 12 (by decide) q1283 dX8_orders_82 ?_
    refine lv_icmp_ge (tgt := 189) hx hb dX8_orders_85 (by decide) (fun c9 => ?_) (fun c9 => ?_)
    · have hw := hw.1 c9
      exact gg_vret (mm_mv D cl E A ad) C0 hW hS hw dX8_orders_189
    · have hw := hw.2 c9
      refine lv_iload_n hx hb dX8_orders_88 rfl (lv_at hl 3 rfl) ?_
      refine lv_iload hx hb dX8_orders_89 (lv_at hl 8 rfl) ?_
      refine lv_ishr hx hb dX8_orders_91 ?_
      refine lv_iconst (v := (1 : Int32)) hx hb dX8_orders_92 (by decide) ?_
      refine lv_iand hx hb dX8_orders_93 ?_
      refine lv_if_ne (tgt := 183) hx hb dX8_orders_94 (by decide) (fun c8 => ?_) (fun c8 => ?_)
      · have hw := hw.2 c8
        refine lv_iinc (v := (x8 + (1 : Int32))) (lv' := [(8, .int (x8 + (1 : Int32))), (0, .ref (ad 0)), (1, .int x1), (2, .int x2), (3, .int x3), (4, .int x4), (5, .int x5), (6, .int x6), (7, .int x7)]) hx hb dX8_orders_183 hl (k := 8) rfl rfl (by decide) rfl (fun ls hl => ?_)
        refine lv_goto (tgt := 79) hx hb dX8_orders_186 (by decide) ?_
        exact ih x1 x2 x3 x4 x5 x6 x7 (x8 + (1 : Int32)) σ _ _ _ hw hW hS (lv_sub hl [1, 2, 3, 4, 5, 6, 7, 8, 0] rfl)
      · have hw := hw.1 c8
        refine lv_aload_n hx hb dX8_orders_97 rfl (lv_at hl 0 rfl) ?_
        refine mm_getr hx hb hts hown hW 11 7 (by decide) q1282 dX8_orders_98 ?_
        refine lv_iconst (v := (2 : Int32)) hx hb dX8_orders_101 (by decide) ?_
        refine lv_iload hx hb dX8_orders_102 (lv_at hl 8 rfl) ?_
        refine lv_imul hx hb dX8_orders_104 ?_
        refine lv_iconst (v := (1 : Int32)) hx hb dX8_orders_105 (by decide) ?_
        refine lv_iadd hx hb dX8_orders_106 ?_
        obtain ⟨hin, hw⟩ := hw
        refine mm_ald hx hb hW 6 (by decide) hin dX8_orders_107 ?_
        refine lv_istore (lv' := [(9, .int (gg_g σ 7 (((2 : Int32) * x8) + (1 : Int32)).toNatClampNeg)), (0, .ref (ad 0)), (1, .int x1), (2, .int x2), (3, .int x3), (4, .int x4), (5, .int x5), (6, .int x6), (7, .int x7), (8, .int x8)]) hx hb dX8_orders_108 hl (by decide) rfl (fun ls hl => ?_)
        refine lv_aload_n hx hb dX8_orders_110 rfl (lv_at hl 1 rfl) ?_
        refine lv_iload hx hb dX8_orders_111 (lv_at hl 9 rfl) ?_
        refine lv_iload_n hx hb dX8_orders_113 rfl (lv_at hl 2 rfl) ?_
        refine mm_VI ⟨hx, hb, hml, hown, hts⟩ (mmt_gleans l _ _ _ hw) (cwV 2 hts (lw_V q1587 q1589 qs86 q120 q1590) rfl rfl rfl cd_X8_gleans ⟨by simp only [mmr_g_orders, mmr_gleans]; omega, by simp only [mmr_g_orders, mmr_gleans]; omega⟩) hW (mm_recv hW) hS rfl hl.1 rfl (Nat.le_of_ble_eq_true rfl) dX8_orders_114 (fun r2 σ1 H locs hw hW hS => ?_)
        refine lv_istore (lv' := [(10, .int r2), (9, .int (gg_g σ 7 (((2 : Int32) * x8) + (1 : Int32)).toNatClampNeg)), (0, .ref (ad 0)), (1, .int x1), (2, .int x2), (3, .int x3), (4, .int x4), (5, .int x5), (6, .int x6), (7, .int x7), (8, .int x8)]) hx hb dX8_orders_117 hl (by decide) rfl (fun ls hl => ?_)
        refine lv_aload_n hx hb dX8_orders_119 rfl (lv_at hl 2 rfl) ?_
        refine lv_iload_n hx hb dX8_orders_120 rfl (lv_at hl 3 rfl) ?_
        refine lv_iload_n hx hb dX8_orders_121 rfl (lv_at hl 4 rfl) ?_
        refine lv_iload_n hx hb dX8_orders_122 rfl (lv_at hl 5 rfl) ?_
        refine lv_iconst (v := (1 : Int32)) hx hb dX8_orders_123 (by decide) ?_
        refine lv_iload hx hb dX8_orders_124 (lv_at hl 10 rfl) ?_
        refine lv_ishl hx hb dX8_orders_126 ?_
        refine lv_ior hx hb dX8_orders_127 ?_
        refine lv_bipush (v := (10 : Int32)) hx hb dX8_orders_128 (by decide) ?_
        refine lv_iload hx hb dX8_orders_130 (lv_at hl 6 rfl) ?_
        refine lv_imul hx hb dX8_orders_132 ?_
        refine lv_iload hx hb dX8_orders_133 (lv_at hl 10 rfl) ?_
        refine lv_iadd hx hb dX8_orders_135 ?_
        refine lv_iconst (v := (1 : Int32)) hx hb dX8_orders_136 (by decide) ?_
        refine lv_iadd hx hb dX8_orders_137 ?_
        refine lv_iload hx hb dX8_orders_138 (lv_at hl 10 rfl) ?_
        refine lv_iload_n hx hb dX8_orders_140 rfl (lv_at hl 4 rfl) ?_
        refine lv_icmp_ne (tgt := 149) hx hb dX8_orders_141 (by decide) (fun c7 => ?_) (fun c7 => ?_)
        · have hw := hw.2 c7
          refine lv_iload hx hb dX8_orders_149 (lv_at hl 7 rfl) ?_
          exact mmk_orders_151 hG_orders C0  (fun y0 y1 y2 y3 y4 y5 y6 y7 τ H9 l9 s9 => ih y0 y1 y2 y3 y4 y5 y6 y7 τ H9 l9 s9) x1 x2 x3 x4 x5 x6 x7 x8 (gg_g σ 7 (((2 : Int32) * x8) + (1 : Int32)).toNatClampNeg) x1 x2 (x3 ||| ((1 : Int32) <<< (x8 &&& 31))) ((((10 : Int32) * x4) + x8) + (1 : Int32)) x5 σ1 _ _ _ hw hW hS (lv_sub hl [2, 3, 4, 5, 6, 7, 8, 9, 10, 1] rfl)
        · have hw := hw.1 c7
          refine lv_iload hx hb dX8_orders_144 (lv_at hl 0 rfl) ?_
          refine lv_goto (tgt := 151) hx hb dX8_orders_146 (by decide) ?_
          exact mmk_orders_151 hG_orders C0  (fun y0 y1 y2 y3 y4 y5 y6 y7 τ H9 l9 s9 => ih y0 y1 y2 y3 y4 y5 y6 y7 τ H9 l9 s9) x1 x2 x3 x4 x5 x6 x7 x8 (gg_g σ 7 (((2 : Int32) * x8) + (1 : Int32)).toNatClampNeg) x1 x2 (x3 ||| ((1 : Int32) <<< (x8 &&& 31))) ((((10 : Int32) * x4) + x8) + (1 : Int32)) r2 σ1 _ _ _ hw hW hS (lv_sub hl [2, 3, 4, 5, 6, 7, 8, 9, 10, 1] rfl)
set_option maxHeartbeats 4000000 in
set_option maxRecDepth 100000 in
theorem mmk_orders_47 {p : Program} {l : Launch} {e : Env} {s : State} {m : MethodId} {args : Array Value} {below : List Frame} {meth : Method} {c : Code} {d : Nat} {G : Int32 → Int32 → Int32 → Int32 → Int32 → gg_S → (gg_S → Prop) → Prop} {D : va_G} {cl : List vw_C} {E : ClassId × ClassId} {A : Nat → Prop} {ad : Nat → Nat} {Q : gg_S → Prop}  (hG_orders : ∀ (b0 : Int32) (b1 : Int32) (b2 : Int32) (b3 : Int32) (b4 : Int32) (σ : gg_S) (Q : gg_S → Prop), G b0 b1 b2 b3 b4 σ Q → Met l yX8_orders (ws_ yX8_orders cX8_orders 11 none) (mmr_g_orders d) (va_Pc [.ref (ad 0), .int b0, .int b1, .int b2, .int b3, .int b4] (fun U => mm_W D cl E A ad σ U U.heap)) (va_Qv Q (fun u t => mm_W D cl E A ad u t t.heap) A) 0 0 A) (C0 : gg_C p s m args meth c RX8 cX8_orders 11 none)  :
    ∀ (x4 : Int32) (x6 : Int32) (σ : gg_S) (H : Heap) (locs : List Loc) (ls : Array Slot), mmw_orders_47 G Q x4 x6 σ → mm_W D cl E A ad σ s H → va_S A s.heap H locs → lv_has ls 11 [(0, .ref (ad 0)), (4, .int x4), (6, .int x6)] → W p l e (mmr_g_orders (d + 1)) s m args below meth c H locs 0 0 (MQ below (va_Qv Q (fun u t => mm_W D cl E A ad u t t.heap) A) args s 0 0 A) (F0 m 47 ls []) := by
  obtain ⟨hx, hb, hml, hown, hts, hr, hlocks⟩ := id C0
  intro x4 x6 σ H locs ls hw hW hS hl
  unfold mmw_orders_47 at hw
  refine lv_aload_n hx hb dX8_orders_47 rfl (lv_at hl 0 rfl) ?_
  refine lv_iload hx hb dX8_orders_48 (lv_at hl 1 rfl) ?_
  refine mm_puti hx hb hts hown hW hS 35 (by decide) q1306 rfl rfl rfl dX8_orders_50 (fun H locs hW hS => ?_)
  obtain ⟨σ10, eσ10⟩ : ∃ z, z = gg_s σ 0 35 x4 := ⟨_, rfl⟩
  rw [← eσ10] at hW
  have hw := hw σ10 eσ10
  refine lv_aload_n hx hb dX8_orders_53 rfl (lv_at hl 0 rfl) ?_
  refine lv_iload hx hb dX8_orders_54 (lv_at hl 2 rfl) ?_
  refine mm_puti hx hb hts hown hW hS 36 (by decide) q1307 rfl rfl rfl dX8_orders_56 (fun H locs hW hS => ?_)
  obtain ⟨σ11, eσ11⟩ : ∃ z, z = gg_s σ10 0 36 x6 := ⟨_, rfl⟩
  rw [← eσ11] at hW
  have hw := hw σ11 eσ11
  exact gg_vret (mm_mv D cl E A ad) C0 hW hS hw dX8_orders_59
set_option maxHeartbeats 4000000 in
set_option maxRecDepth 100000 in
theorem mmk_orders_28 {p : Program} {l : Launch} {e : Env} {s : State} {m : MethodId} {args : Array Value} {below : List Frame} {meth : Method} {c : Code} {d : Nat} {G : Int32 → Int32 → Int32 → Int32 → Int32 → gg_S → (gg_S → Prop) → Prop} {D : va_G} {cl : List vw_C} {E : ClassId × ClassId} {A : Nat → Prop} {ad : Nat → Nat} {Q : gg_S → Prop}  (hG_orders : ∀ (b0 : Int32) (b1 : Int32) (b2 : Int32) (b3 : Int32) (b4 : Int32) (σ : gg_S) (Q : gg_S → Prop), G b0 b1 b2 b3 b4 σ Q → Met l yX8_orders (ws_ yX8_orders cX8_orders 11 none) (mmr_g_orders d) (va_Pc [.ref (ad 0), .int b0, .int b1, .int b2, .int b3, .int b4] (fun U => mm_W D cl E A ad σ U U.heap)) (va_Qv Q (fun u t => mm_W D cl E A ad u t t.heap) A) 0 0 A) (C0 : gg_C p s m args meth c RX8 cX8_orders 11 none)  :
    ∀ (x4 : Int32) (s0 : Int32) (σ : gg_S) (H : Heap) (locs : List Loc) (ls : Array Slot), mmw_orders_28 G Q x4 s0 σ → mm_W D cl E A ad σ s H → va_S A s.heap H locs → lv_has ls 11 [(0, .ref (ad 0)), (4, .int x4)] → W p l e (mmr_g_orders (d + 1)) s m args below meth c H locs 0 0 (MQ below (va_Qv Q (fun u t => mm_W D cl E A ad u t t.heap) A) args s 0 0 A) (F0 m 28 ls [.int s0]) := by
  obtain ⟨hx, hb, hml, hown, hts, hr, hlocks⟩ := id C0
  intro x4 s0 σ H locs ls hw hW hS hl
  unfold mmw_orders_28 at hw
  refine lv_istore (lv' := [(6, .int s0), (0, .ref (ad 0)), (4, .int x4)]) hx hb dX8_orders_28 hl (by decide) rfl (fun ls hl => ?_)
  refine lv_aload_n hx hb dX8_orders_30 rfl (lv_at hl 1 rfl) ?_
  refine mm_geti hx hb hts hown hW 35 (by decide) q1306 dX8_orders_31 ?_
  refine lv_iconst (v := (-1 : Int32)) hx hb dX8_orders_34 (by decide) ?_
  refine lv_icmp_eq (tgt := 47) hx hb dX8_orders_35 (by decide) (fun c13 => ?_) (fun c13 => ?_)
  · have hw := hw.1 c13
    exact mmk_orders_47 hG_orders C0   x4 s0 σ _ _ _ hw hW hS (lv_sub hl [1, 2, 0] rfl)
  · have hw := hw.2 c13
    refine lv_iload hx hb dX8_orders_38 (lv_at hl 0 rfl) ?_
    refine lv_aload_n hx hb dX8_orders_40 rfl (lv_at hl 1 rfl) ?_
    refine mm_geti hx hb hts hown hW 36 (by decide) q1307 dX8_orders_41 ?_
    refine lv_icmp_le (tgt := 59) hx hb dX8_orders_44 (by decide) (fun c12 => ?_) (fun c12 => ?_)
    · have hw := hw.1 c12
      exact gg_vret (mm_mv D cl E A ad) C0 hW hS hw dX8_orders_59
    · have hw := hw.2 c12
      exact mmk_orders_47 hG_orders C0   x4 s0 σ _ _ _ hw hW hS (lv_sub hl [1, 2, 0] rfl)
set_option maxHeartbeats 4000000 in
set_option maxRecDepth 100000 in
theorem mmt_orders (l : Launch) {d : Nat} {G : Int32 → Int32 → Int32 → Int32 → Int32 → gg_S → (gg_S → Prop) → Prop} {D : va_G} {cl : List vw_C} {E : ClassId × ClassId} {A : Nat → Prop} {ad : Nat → Nat} (hG_orders : ∀ (b0 : Int32) (b1 : Int32) (b2 : Int32) (b3 : Int32) (b4 : Int32) (σ : gg_S) (Q : gg_S → Prop), G b0 b1 b2 b3 b4 σ Q → Met l yX8_orders (ws_ yX8_orders cX8_orders 11 none) (mmr_g_orders d) (va_Pc [.ref (ad 0), .int b0, .int b1, .int b2, .int b3, .int b4] (fun U => mm_W D cl E A ad σ U U.heap)) (va_Qv Q (fun u t => mm_W D cl E A ad u t t.heap) A) 0 0 A) (a1 : Int32) (a2 : Int32) (a3 : Int32) (a4 : Int32) (a5 : Int32) (σ : gg_S) {Q : gg_S → Prop} (hw : mmw_orders G a1 a2 a3 a4 a5 σ Q) :
    Met l yX8_orders (ws_ yX8_orders cX8_orders 11 none) (mmr_g_orders (d + 1)) (va_Pc [.ref (ad 0), .int a1, .int a2, .int a3, .int a4, .int a5] (fun U => mm_W D cl E A ad σ U U.heap)) (va_Qv Q (fun u t => mm_W D cl E A ad u t t.heap) A) 0 0 A := by
  refine gg_entry (W0 := fun s H => mm_W D cl E A ad σ s H) (by decide) (Nat.le_of_ble_eq_true rfl) ?_
  intro p e s m args below meth c C0 hW ls hl
  have C0 : gg_C p s m args meth c RX8 cX8_orders 11 none := C0
  obtain ⟨hx, hb, hml, hown, hts, hr, hlocks⟩ := id C0
  have hl : lv_has ls 11 [(0, .ref (ad 0)), (1, .int a1), (2, .int a2), (3, .int a3), (4, .int a4), (5, .int a5)] := hl
  have hS : va_S A s.heap s.heap [] := va_S.rf
  unfold mmw_orders at hw
  refine lv_iload_n hx hb dX8_orders_0 rfl (lv_at hl 3 rfl) ?_
  refine lv_iconst (v := (1 : Int32)) hx hb dX8_orders_1 (by decide) ?_
  refine lv_aload_n hx hb dX8_orders_2 rfl (lv_at hl 0 rfl) ?_
  refine mm_geti hx hb hts hown hW 12 (by decide) q1283 dX8_orders_3 ?_
  refine lv_ishl hx hb dX8_orders_6 ?_
  refine lv_iconst (v := (1 : Int32)) hx hb dX8_orders_7 (by decide) ?_
  refine lv_isub hx hb dX8_orders_8 ?_
  refine lv_icmp_ne (tgt := 60) hx hb dX8_orders_9 (by decide) (fun c17 => ?_) (fun c17 => ?_)
  · have hw := hw.2 c17
    refine lv_aload_n hx hb dX8_orders_60 rfl (lv_at hl 0 rfl) ?_
    refine mm_getr hx hb hts hown hW 8 4 (by decide) q1279 dX8_orders_61 ?_
    refine lv_iload_n hx hb dX8_orders_64 rfl (lv_at hl 1 rfl) ?_
    obtain ⟨hin, hw⟩ := hw
    refine mm_ald hx hb hW 3 (by decide) hin dX8_orders_65 ?_
    refine lv_istore (lv' := [(6, .int (gg_g σ 4 a1.toNatClampNeg)), (0, .ref (ad 0)), (1, .int a1), (2, .int a2), (3, .int a3), (4, .int a4), (5, .int a5)]) hx hb dX8_orders_66 hl (by decide) rfl (fun ls hl => ?_)
    refine lv_aload_n hx hb dX8_orders_68 rfl (lv_at hl 1 rfl) ?_
    refine mm_getr hx hb hts hown hW 9 5 (by decide) q1280 dX8_orders_69 ?_
    refine lv_iload_n hx hb dX8_orders_72 rfl (lv_at hl 2 rfl) ?_
    obtain ⟨hin, hw⟩ := hw
    refine mm_ald hx hb hW 4 (by decide) hin dX8_orders_73 ?_
    refine lv_istore (lv' := [(7, .int (gg_g σ 5 a1.toNatClampNeg)), (6, .int (gg_g σ 4 a1.toNatClampNeg)), (0, .ref (ad 0)), (1, .int a1), (2, .int a2), (3, .int a3), (4, .int a4), (5, .int a5)]) hx hb dX8_orders_74 hl (by decide) rfl (fun ls hl => ?_)
    refine lv_iconst (v := (0 : Int32)) hx hb dX8_orders_76 (by decide) ?_
    refine lv_istore (lv' := [(8, .int (0 : Int32)), (7, .int (gg_g σ 5 a1.toNatClampNeg)), (6, .int (gg_g σ 4 a1.toNatClampNeg)), (0, .ref (ad 0)), (1, .int a1), (2, .int a2), (3, .int a3), (4, .int a4), (5, .int a5)]) hx hb dX8_orders_77 hl (by decide) rfl (fun ls hl => ?_)
    obtain ⟨n9, hw⟩ := hw
    exact mmk_orders_79 hG_orders C0   n9 a1 a2 a3 a4 a5 (gg_g σ 4 a1.toNatClampNeg) (gg_g σ 5 a1.toNatClampNeg) (0 : Int32) σ _ _ _ hw hW hS (lv_sub hl [3, 4, 5, 6, 7, 8, 2, 1, 0] rfl)
  · have hw := hw.1 c17
    refine lv_iload_n hx hb dX8_orders_12 rfl (lv_at hl 2 rfl) ?_
    refine lv_iconst (v := (-1 : Int32)) hx hb dX8_orders_13 (by decide) ?_
    refine lv_icmp_ne (tgt := 26) hx hb dX8_orders_14 (by decide) (fun c16 => ?_) (fun c16 => ?_)
    · have hw := hw.2 c16
      refine lv_iload hx hb dX8_orders_26 (lv_at hl 5 rfl) ?_
      exact mmk_orders_28 hG_orders C0   a4 a5 σ _ _ _ hw hW hS (lv_sub hl [0, 4] rfl)
    · have hw := hw.1 c16
      refine lv_aload_n hx hb dX8_orders_17 rfl (lv_at hl 0 rfl) ?_
      refine lv_iload_n hx hb dX8_orders_18 rfl (lv_at hl 1 rfl) ?_
      refine mm_VI ⟨hx, hb, hml, hown, hts⟩ (mmt_leftOf l _ _ hw) (cwV 1 hts (lw_V q1426 q1428 qs60 q120 q1429) rfl rfl rfl cd_X8_leftOf ⟨by simp only [mmr_g_orders, mmr_leftOf]; omega, by simp only [mmr_g_orders, mmr_leftOf]; omega⟩) hW (mm_recv hW) hS rfl hl.1 rfl (Nat.le_of_ble_eq_true rfl) dX8_orders_19 (fun r15 σ14 H locs hw hW hS => ?_)
      refine lv_ineg hx hb dX8_orders_22 ?_
      refine lv_goto (tgt := 28) hx hb dX8_orders_23 (by decide) ?_
      exact mmk_orders_28 hG_orders C0   a4 (-r15) σ14 _ _ _ hw hW hS (lv_sub hl [0, 4] rfl)
def mmw_g_orders : Nat → Int32 → Int32 → Int32 → Int32 → Int32 → gg_S → (gg_S → Prop) → Prop
  | 0 => fun _ _ _ _ _ _ _  => False
  | d + 1 => fun b0 b1 b2 b3 b4 σ Q => mmw_orders (mmw_g_orders d) b0 b1 b2 b3 b4 σ Q
set_option maxHeartbeats 4000000 in
set_option maxRecDepth 100000 in
theorem mmt_g_orders (l : Launch) {D : va_G} {cl : List vw_C} {E : ClassId × ClassId} {A : Nat → Prop} {ad : Nat → Nat} : ∀ d : Nat, ∀ (b0 : Int32) (b1 : Int32) (b2 : Int32) (b3 : Int32) (b4 : Int32) (σ : gg_S) (Q : gg_S → Prop), mmw_g_orders d b0 b1 b2 b3 b4 σ Q → Met l yX8_orders (ws_ yX8_orders cX8_orders 11 none) (mmr_g_orders d) (va_Pc [.ref (ad 0), .int b0, .int b1, .int b2, .int b3, .int b4] (fun U => mm_W D cl E A ad σ U U.heap)) (va_Qv Q (fun u t => mm_W D cl E A ad u t t.heap) A) 0 0 A := by
  intro d
  induction d with
  | zero => intro b0 b1 b2 b3 b4 σ Q hw; exact hw.elim
  | succ d ih => intro b0 b1 b2 b3 b4 σ Q hw; exact mmt_orders l ih b0 b1 b2 b3 b4 σ hw
theorem cd_X8_first : yX8_first.cls = RX8 ∧ yX8_first.cls ≠ "java/lang/invoke/MethodHandle" ∧ yX8_first.cls ≠ "java/lang/invoke/VarHandle" ∧ (parseMethodDescriptor yX8_first.desc).map (fun d => d.parameters.length) = some 3 := by decide +kernel
/-! GleanersForGapsModel.first(III)I -/
def mmw_first  (a1 : Int32) (a2 : Int32) (a3 : Int32) (σ : gg_S) (Q : Int32 → gg_S → Prop) : Prop :=
    (mmw_isOne a1 σ (fun r2 σ1 => (((r2 = 0) → Q (-1000 : Int32) σ1) ∧ (¬ (r2 = 0) → (mmw_isRow a2 σ1 (fun r4 σ3 => (((r4 = 0) → Q (-1000 : Int32) σ3) ∧ (¬ (r4 = 0) → (mmw_in ((a3).toInt64) (0 : Int64) (1 : Int64) σ3 (fun r6 σ5 => (((r6 = 0) → Q (-1000 : Int32) σ5) ∧ (¬ (r6 = 0) → (∀ σ7 : gg_S, σ7 = gg_s σ5 0 35 (-1 : Int32) → (∀ σ8 : gg_S, σ8 = gg_s σ7 0 36 (0 : Int32) → (mmw_g_orders 6 a2 a1 (0 : Int32) (0 : Int32) (0 : Int32) σ8 (fun σ9 => (((a3 = 0) → Q (gg_g σ9 0 35) σ9) ∧ (¬ (a3 = 0) → Q (gg_g σ9 0 36) σ9))))))))))))))))))
abbrev mmr_first : Room := { frames := 59, cells := 0, slots := 0, locals := 1417 }
set_option maxHeartbeats 4000000 in
set_option maxRecDepth 100000 in
theorem mmt_first (l : Launch) {D : va_G} {cl : List vw_C} {E : ClassId × ClassId} {A : Nat → Prop} {ad : Nat → Nat}  (a1 : Int32) (a2 : Int32) (a3 : Int32) (σ : gg_S) {Q : Int32 → gg_S → Prop} (hw : mmw_first a1 a2 a3 σ Q) :
    Met l yX8_first (ws_ yX8_first cX8_first 4 (some .int)) mmr_first (va_Pc [.ref (ad 0), .int a1, .int a2, .int a3] (fun U => mm_W D cl E A ad σ U U.heap)) (va_Qi Q (fun u t => mm_W D cl E A ad u t t.heap) A) 0 0 A := by
  refine gg_entry (W0 := fun s H => mm_W D cl E A ad σ s H) (by decide) (Nat.le_of_ble_eq_true rfl) ?_
  intro p e s m args below meth c C0 hW ls hl
  have C0 : gg_C p s m args meth c RX8 cX8_first 4 (some .int) := C0
  obtain ⟨hx, hb, hml, hown, hts, hr, hlocks⟩ := id C0
  have hl : lv_has ls 4 [(0, .ref (ad 0)), (1, .int a1), (2, .int a2), (3, .int a3)] := hl
  have hS : va_S A s.heap s.heap [] := va_S.rf
  unfold mmw_first at hw
  refine lv_aload_n hx hb dX8_first_0 rfl (lv_at hl 0 rfl) ?_
  refine lv_iload_n hx hb dX8_first_1 rfl (lv_at hl 1 rfl) ?_
  refine mm_VI ⟨hx, hb, hml, hown, hts⟩ (mmt_isOne l _ _ hw) (cwV 1 hts (lw_V q1438 q1440 qs61 q120 q1441) rfl rfl rfl cd_X8_isOne ⟨Nat.le_of_ble_eq_true rfl, Nat.le_of_ble_eq_true rfl⟩) hW (mm_recv hW) hS rfl hl.1 rfl (Nat.le_of_ble_eq_true rfl) dX8_first_2 (fun r2 σ1 H locs hw hW hS => ?_)
  obtain ⟨hz_r2, hw⟩ := hw
  refine lv_if_eq (tgt := 25) hx hb dX8_first_5 (by decide) (fun c13 => ?_) (fun c13 => ?_)
  · have hw := hw.1 c13
    refine lv_sipush (v := (-1000 : Int32)) hx hb dX8_first_25 (by decide) ?_
    exact gg_iret (mm_mv D cl E A ad) C0 hW hS hw dX8_first_28
  · have hw := hw.2 c13
    refine lv_iload_n hx hb dX8_first_8 rfl (lv_at hl 2 rfl) ?_
    refine mm_SI ⟨hx, hb, hml, hown, hts⟩ (mmt_isRow l _ _ hw) (va_cwS 1 hts (lw_S q1418 q1419 q120 q1420) rfl rfl rfl cd_X8_isRow.2 ⟨Nat.le_of_ble_eq_true rfl, Nat.le_of_ble_eq_true rfl⟩) hW hS rfl hl.1 rfl (Nat.le_of_ble_eq_true rfl) dX8_first_9 (fun r4 σ3 H locs hw hW hS => ?_)
    obtain ⟨hz_r4, hw⟩ := hw
    refine lv_if_eq (tgt := 25) hx hb dX8_first_12 (by decide) (fun c12 => ?_) (fun c12 => ?_)
    · have hw := hw.1 c12
      refine lv_sipush (v := (-1000 : Int32)) hx hb dX8_first_25 (by decide) ?_
      exact gg_iret (mm_mv D cl E A ad) C0 hW hS hw dX8_first_28
    · have hw := hw.2 c12
      refine lv_iload_n hx hb dX8_first_15 rfl (lv_at hl 3 rfl) ?_
      refine lv_i2l (v := (a3).toInt64) hx hb dX8_first_16 rfl ?_
      refine lv_lconst (v := (0 : Int64)) hx hb dX8_first_17 (by decide) ?_
      refine lv_lconst (v := (1 : Int64)) hx hb dX8_first_18 (by decide) ?_
      refine mm_SI ⟨hx, hb, hml, hown, hts⟩ (mmt_in l _ _ _ _ hw) (va_cwS 3 hts (lw_S q1422 q1423 q120 q1424) rfl rfl rfl cd_X8_in.2 ⟨Nat.le_of_ble_eq_true rfl, Nat.le_of_ble_eq_true rfl⟩) hW hS rfl hl.1 rfl (Nat.le_of_ble_eq_true rfl) dX8_first_19 (fun r6 σ5 H locs hw hW hS => ?_)
      obtain ⟨hz_r6, hw⟩ := hw
      refine lv_if_ne (tgt := 29) hx hb dX8_first_22 (by decide) (fun c11 => ?_) (fun c11 => ?_)
      · have hw := hw.2 c11
        refine lv_aload_n hx hb dX8_first_29 rfl (lv_at hl 0 rfl) ?_
        refine lv_iconst (v := (-1 : Int32)) hx hb dX8_first_30 (by decide) ?_
        refine mm_puti hx hb hts hown hW hS 35 (by decide) q1306 rfl rfl rfl dX8_first_31 (fun H locs hW hS => ?_)
        obtain ⟨σ7, eσ7⟩ : ∃ z, z = gg_s σ5 0 35 (-1 : Int32) := ⟨_, rfl⟩
        rw [← eσ7] at hW
        have hw := hw σ7 eσ7
        refine lv_aload_n hx hb dX8_first_34 rfl (lv_at hl 0 rfl) ?_
        refine lv_iconst (v := (0 : Int32)) hx hb dX8_first_35 (by decide) ?_
        refine mm_puti hx hb hts hown hW hS 36 (by decide) q1307 rfl rfl rfl dX8_first_36 (fun H locs hW hS => ?_)
        obtain ⟨σ8, eσ8⟩ : ∃ z, z = gg_s σ7 0 36 (0 : Int32) := ⟨_, rfl⟩
        rw [← eσ8] at hW
        have hw := hw σ8 eσ8
        refine lv_aload_n hx hb dX8_first_39 rfl (lv_at hl 0 rfl) ?_
        refine lv_iload_n hx hb dX8_first_40 rfl (lv_at hl 2 rfl) ?_
        refine lv_iload_n hx hb dX8_first_41 rfl (lv_at hl 1 rfl) ?_
        refine lv_iconst (v := (0 : Int32)) hx hb dX8_first_42 (by decide) ?_
        refine lv_iconst (v := (0 : Int32)) hx hb dX8_first_43 (by decide) ?_
        refine lv_iconst (v := (0 : Int32)) hx hb dX8_first_44 (by decide) ?_
        refine mm_VV ⟨hx, hb, hml, hown, hts⟩ (mmt_g_orders l 6 _ _ _ _ _ _ _ hw) (cwV 5 hts (lw_V q1644 q1646 qs95 q120 q1647) rfl rfl rfl cd_X8_orders ⟨Nat.le_of_ble_eq_true rfl, Nat.le_of_ble_eq_true rfl⟩) hW (mm_recv hW) hS rfl hl.1 rfl (Nat.le_of_ble_eq_true rfl) dX8_first_45 (fun σ9 H locs hw hW hS => ?_)
        refine lv_iload_n hx hb dX8_first_48 rfl (lv_at hl 3 rfl) ?_
        refine lv_if_ne (tgt := 59) hx hb dX8_first_49 (by decide) (fun c10 => ?_) (fun c10 => ?_)
        · have hw := hw.2 c10
          refine lv_aload_n hx hb dX8_first_59 rfl (lv_at hl 0 rfl) ?_
          refine mm_geti hx hb hts hown hW 36 (by decide) q1307 dX8_first_60 ?_
          exact gg_iret (mm_mv D cl E A ad) C0 hW hS hw dX8_first_63
        · have hw := hw.1 c10
          refine lv_aload_n hx hb dX8_first_52 rfl (lv_at hl 0 rfl) ?_
          refine mm_geti hx hb hts hown hW 35 (by decide) q1306 dX8_first_53 ?_
          refine lv_goto (tgt := 63) hx hb dX8_first_56 (by decide) ?_
          exact gg_iret (mm_mv D cl E A ad) C0 hW hS hw dX8_first_63
      · have hw := hw.1 c11
        refine lv_sipush (v := (-1000 : Int32)) hx hb dX8_first_25 (by decide) ?_
        exact gg_iret (mm_mv D cl E A ad) C0 hW hS hw dX8_first_28
