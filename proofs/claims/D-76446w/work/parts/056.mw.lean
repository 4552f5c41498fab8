theorem cd_X8_over : yX8_over.cls = RX8 ∧ yX8_over.cls ≠ "java/lang/invoke/MethodHandle" ∧ yX8_over.cls ≠ "java/lang/invoke/VarHandle" ∧ (parseMethodDescriptor yX8_over.desc).map (fun d => d.parameters.length) = some 1 := by decide +kernel
/-! GleanersForGapsModel.over(I)I -/
def mmw_over  (a0 : Int32) (σ : gg_S) (Q : Int32 → gg_S → Prop) : Prop :=
    (((a0 = 0) → Q (-1 : Int32) σ) ∧ (¬ (a0 = 0) → (((a0 = (3 : Int32)) → Q (1 : Int32) σ) ∧ (¬ (a0 = (3 : Int32)) → (((a0 = (4 : Int32)) → Q (2 : Int32) σ) ∧ (¬ (a0 = (4 : Int32)) → Q (0 : Int32) σ))))))
abbrev mmr_over : Room := { frames := 0, cells := 0, slots := 0, locals := 0 }
set_option maxHeartbeats 4000000 in
set_option maxRecDepth 100000 in
theorem mmt_over (l : Launch) {D : va_G} {cl : List vw_C} {E : ClassId × ClassId} {A : Nat → Prop} {ad : Nat → Nat}  (a0 : Int32) (σ : gg_S) {Q : Int32 → gg_S → Prop} (hw : mmw_over a0 σ Q) :
    Met l yX8_over (ws_ yX8_over cX8_over 1 (some .int)) mmr_over (va_Pc [.int a0] (fun U => mm_W D cl E A ad σ U U.heap)) (va_Qi Q (fun u t => mm_W D cl E A ad u t t.heap) A) 0 0 A := by
  refine gg_entry (W0 := fun s H => mm_W D cl E A ad σ s H) (by decide) (Nat.le_of_ble_eq_true rfl) ?_
  intro p e s m args below meth c C0 hW ls hl
  have C0 : gg_C p s m args meth c RX8 cX8_over 1 (some .int) := C0
  obtain ⟨hx, hb, hml, hown, hts, hr, hlocks⟩ := id C0
  have hl : lv_has ls 1 [(0, .int a0)] := hl
  have hS : va_S A s.heap s.heap [] := va_S.rf
  unfold mmw_over at hw
  refine lv_iload_n hx hb dX8_over_0 rfl (lv_at hl 0 rfl) ?_
  refine lv_if_ne (tgt := 8) hx hb dX8_over_1 (by decide) (fun c3 => ?_) (fun c3 => ?_)
  · have hw := hw.2 c3
    refine lv_iload_n hx hb dX8_over_8 rfl (lv_at hl 0 rfl) ?_
    refine lv_iconst (v := (3 : Int32)) hx hb dX8_over_9 (by decide) ?_
    refine lv_icmp_ne (tgt := 17) hx hb dX8_over_10 (by decide) (fun c2 => ?_) (fun c2 => ?_)
    · have hw := hw.2 c2
      refine lv_iload_n hx hb dX8_over_17 rfl (lv_at hl 0 rfl) ?_
      refine lv_iconst (v := (4 : Int32)) hx hb dX8_over_18 (by decide) ?_
      refine lv_icmp_ne (tgt := 26) hx hb dX8_over_19 (by decide) (fun c1 => ?_) (fun c1 => ?_)
      · have hw := hw.2 c1
        refine lv_iconst (v := (0 : Int32)) hx hb dX8_over_26 (by decide) ?_
        exact gg_iret (mm_mv D cl E A ad) C0 hW hS hw dX8_over_27
      · have hw := hw.1 c1
        refine lv_iconst (v := (2 : Int32)) hx hb dX8_over_22 (by decide) ?_
        refine lv_goto (tgt := 27) hx hb dX8_over_23 (by decide) ?_
        exact gg_iret (mm_mv D cl E A ad) C0 hW hS hw dX8_over_27
    · have hw := hw.1 c2
      refine lv_iconst (v := (1 : Int32)) hx hb dX8_over_13 (by decide) ?_
      refine lv_goto (tgt := 27) hx hb dX8_over_14 (by decide) ?_
      exact gg_iret (mm_mv D cl E A ad) C0 hW hS hw dX8_over_27
  · have hw := hw.1 c3
    refine lv_iconst (v := (-1 : Int32)) hx hb dX8_over_4 (by decide) ?_
    refine lv_goto (tgt := 27) hx hb dX8_over_5 (by decide) ?_
    exact gg_iret (mm_mv D cl E A ad) C0 hW hS hw dX8_over_27
theorem cd_X8_taken : yX8_taken.cls = RX8 ∧ yX8_taken.cls ≠ "java/lang/invoke/MethodHandle" ∧ yX8_taken.cls ≠ "java/lang/invoke/VarHandle" ∧ (parseMethodDescriptor yX8_taken.desc).map (fun d => d.parameters.length) = some 2 := by decide +kernel
/-! GleanersForGapsModel.taken(II)I -/
def mmw_taken_51  (Q : Int32 → gg_S → Prop)  (x1 : Int32) (x2 : Int32) (x3 : Int32) (σ : gg_S) : Prop :=
    (((x3 = x2) → vp_in ((2 : Int32) * x1) 10 ∧ Q (gg_g σ 7 ((2 : Int32) * x1).toNatClampNeg) σ) ∧ (¬ (x3 = x2) → Q (-13 : Int32) σ))
def mmw_taken_33  (Q : Int32 → gg_S → Prop)  : Nat → Int32 → Int32 → Int32 → gg_S → Prop
  | 0, _, _, _, _ => False
  | n + 1, x1, x2, x3, σ =>
    (((x3 = (-1 : Int32)) → mmw_taken_51 Q x1 x2 x3 σ) ∧ (¬ (x3 = (-1 : Int32)) → (((x3 = x2) → mmw_taken_51 Q x1 x2 x3 σ) ∧ (¬ (x3 = x2) → (mmw_over x3 σ (fun r7 σ6 => mmw_taken_33 Q n x1 x2 r7 σ6))))))
def mmw_taken  (a1 : Int32) (a2 : Int32) (σ : gg_S) (Q : Int32 → gg_S → Prop) : Prop :=
    (mmw_in ((a2).toInt64) (0 : Int64) (5 : Int64) σ (fun r2 σ1 => (((r2 = 0) → Q (-2 : Int32) σ1) ∧ (¬ (r2 = 0) → (mmw_isOne a1 σ1 (fun r4 σ3 => (((r4 = 0) → Q (-11 : Int32) σ3) ∧ (¬ (r4 = 0) → vp_in a1 5 ∧ ∃ k9, mmw_taken_33 Q k9 a1 a2 (gg_g σ3 6 a1.toNatClampNeg) σ3))))))))
abbrev mmr_taken : Room := { frames := 2, cells := 0, slots := 0, locals := 46 }
set_option maxHeartbeats 4000000 in
set_option maxRecDepth 100000 in
theorem mmk_taken_51 {p : Program} {l : Launch} {e : Env} {s : State} {m : MethodId} {args : Array Value} {below : List Frame} {meth : Method} {c : Code} {D : va_G} {cl : List vw_C} {E : ClassId × ClassId} {A : Nat → Prop} {ad : Nat → Nat} {Q : Int32 → gg_S → Prop}   (C0 : gg_C p s m args meth c RX8 cX8_taken 4 (some .int))  :
    ∀ (x1 : Int32) (x2 : Int32) (x3 : Int32) (σ : gg_S) (H : Heap) (locs : List Loc) (ls : Array Slot), mmw_taken_51 Q x1 x2 x3 σ → mm_W D cl E A ad σ s H → va_S A s.heap H locs → lv_has ls 4 [(0, .ref (ad 0)), (1, .int x1), (2, .int x2), (3, .int x3)] → W p l e mmr_taken s m args below meth c H locs 0 0 (MQ below (va_Qi Q (fun u t => mm_W D cl E A ad u t t.heap) A) args s 0 0 A) (F0 m 51 ls []) := by
  obtain ⟨hx, hb, hml, hown, hts, hr, hlocks⟩ := id C0
  intro x1 x2 x3 σ H locs ls hw hW hS hl
  unfold mmw_taken_51 at hw
  refine lv_iload_n hx hb dX8_taken_51 rfl (lv_at hl 3 rfl) ?_
  refine lv_iload_n hx hb dX8_taken_52 rfl (lv_at hl 2 rfl) ?_
  refine lv_icmp_ne (tgt := 67) hx hb dX8_taken_53 (by decide) (fun c5 => ?_) (fun c5 => ?_)
  · have hw := hw.2 c5
    refine lv_bipush (v := (-13 : Int32)) hx hb dX8_taken_67 (by decide) ?_
    exact gg_iret (mm_mv D cl E A ad) C0 hW hS hw dX8_taken_69
  · have hw := hw.1 c5
    refine lv_aload_n hx hb dX8_taken_56 rfl (lv_at hl 0 rfl) ?_
    refine mm_getr hx hb hts hown hW 11 7 (by decide) q1282 dX8_taken_57 ?_
    refine lv_iconst (v := (2 : Int32)) hx hb dX8_taken_60 (by decide) ?_
    refine lv_iload_n hx hb dX8_taken_61 rfl (lv_at hl 1 rfl) ?_
    refine lv_imul hx hb dX8_taken_62 ?_
    obtain ⟨hin, hw⟩ := hw
    refine mm_ald hx hb hW 6 (by decide) hin dX8_taken_63 ?_
    refine lv_goto (tgt := 69) hx hb dX8_taken_64 (by decide) ?_
    exact gg_iret (mm_mv D cl E A ad) C0 hW hS hw dX8_taken_69
set_option maxHeartbeats 4000000 in
set_option maxRecDepth 100000 in
theorem mmk_taken_33 {p : Program} {l : Launch} {e : Env} {s : State} {m : MethodId} {args : Array Value} {below : List Frame} {meth : Method} {c : Code} {D : va_G} {cl : List vw_C} {E : ClassId × ClassId} {A : Nat → Prop} {ad : Nat → Nat} {Q : Int32 → gg_S → Prop}   (C0 : gg_C p s m args meth c RX8 cX8_taken 4 (some .int))  :
    ∀ n : Nat, ∀ (x1 : Int32) (x2 : Int32) (x3 : Int32) (σ : gg_S) (H : Heap) (locs : List Loc) (ls : Array Slot), mmw_taken_33 Q n x1 x2 x3 σ → mm_W D cl E A ad σ s H → va_S A s.heap H locs → lv_has ls 4 [(0, .ref (ad 0)), (1, .int x1), (2, .int x2), (3, .int x3)] → W p l e mmr_taken s m args below meth c H locs 0 0 (MQ below (va_Qi Q (fun u t => mm_W D cl E A ad u t t.heap) A) args s 0 0 A) (F0 m 33 ls []) := by
  obtain ⟨hx, hb, hml, hown, hts, hr, hlocks⟩ := id C0
  intro n
  induction n with
  | zero =>
    intro x1 x2 x3 σ H locs ls hw hW hS hl
    exact absurd hw (by unfold mmw_taken_33; exact id)
  | succ n ih =>
    intro x1 x2 x3 σ H locs ls hw hW hS hl
    unfold mmw_taken_33 at hw
    refine lv_iload_n hx hb dX8_taken_33 rfl (lv_at hl 3 rfl) ?_
    refine lv_iconst (v := (-1 : Int32)) hx hb dX8_taken_34 (by decide) ?_
    refine lv_icmp_eq (tgt := 51) hx hb dX8_taken_35 (by decide) (fun c9 => ?_) (fun c9 => ?_)
    · have hw := hw.1 c9
      exact mmk_taken_51  C0   x1 x2 x3 σ _ _ _ hw hW hS (hl)
    · have hw := hw.2 c9
      refine lv_iload_n hx hb dX8_taken_38 rfl (lv_at hl 3 rfl) ?_
      refine lv_iload_n hx hb dX8_taken_39 rfl (lv_at hl 2 rfl) ?_
      refine lv_icmp_eq (tgt := 51) hx hb dX8_taken_40 (by decide) (fun c8 => ?_) (fun c8 => ?_)
      · have hw := hw.1 c8
        exact mmk_taken_51  C0   x1 x2 x3 σ _ _ _ hw hW hS (hl)
      · have hw := hw.2 c8
        refine lv_iload_n hx hb dX8_taken_43 rfl (lv_at hl 3 rfl) ?_
        refine mm_SI ⟨hx, hb, hml, hown, hts⟩ (mmt_over l _ _ hw) (va_cwS 1 hts (lw_S q1749 q1750 q120 q1751) rfl rfl rfl cd_X8_over.2 ⟨Nat.le_of_ble_eq_true rfl, Nat.le_of_ble_eq_true rfl⟩) hW hS rfl hl.1 rfl (Nat.le_of_ble_eq_true rfl) dX8_taken_44 (fun r7 σ6 H locs hw hW hS => ?_)
        refine lv_istore_n (lv' := [(3, .int r7), (0, .ref (ad 0)), (1, .int x1), (2, .int x2)]) hx hb dX8_taken_47 rfl hl (by decide) rfl (fun ls hl => ?_)
        refine lv_goto (tgt := 33) hx hb dX8_taken_48 (by decide) ?_
        exact ih x1 x2 r7 σ6 _ _ _ hw hW hS (lv_sub hl [1, 2, 3, 0] rfl)
set_option maxHeartbeats 4000000 in
set_option maxRecDepth 100000 in
theorem mmt_taken (l : Launch) {D : va_G} {cl : List vw_C} {E : ClassId × ClassId} {A : Nat → Prop} {ad : Nat → Nat}  (a1 : Int32) (a2 : Int32) (σ : gg_S) {Q : Int32 → gg_S → Prop} (hw : mmw_taken a1 a2 σ Q) :
    Met l yX8_taken (ws_ yX8_taken cX8_taken 4 (some .int)) mmr_taken (va_Pc [.ref (ad 0), .int a1, .int a2] (fun U => mm_W D cl E A ad σ U U.heap)) (va_Qi Q (fun u t => mm_W D cl E A ad u t t.heap) A) 0 0 A := by
  refine gg_entry (W0 := fun s H => mm_W D cl E A ad σ s H) (by decide) (Nat.le_of_ble_eq_true rfl) ?_
  intro p e s m args below meth c C0 hW ls hl
  have C0 : gg_C p s m args meth c RX8 cX8_taken 4 (some .int) := C0
  obtain ⟨hx, hb, hml, hown, hts, hr, hlocks⟩ := id C0
  have hl : lv_has ls 4 [(0, .ref (ad 0)), (1, .int a1), (2, .int a2)] := hl
  have hS : va_S A s.heap s.heap [] := va_S.rf
  unfold mmw_taken at hw
  refine lv_iload_n hx hb dX8_taken_0 rfl (lv_at hl 2 rfl) ?_
  refine lv_i2l (v := (a2).toInt64) hx hb dX8_taken_1 rfl ?_
  refine lv_lconst (v := (0 : Int64)) hx hb dX8_taken_2 (by decide) ?_
  refine lv_ldc2 (own := RX8) (v := (5 : Int64)) hx hb hown (hts _ q1555) dX8_taken_3 ?_
  refine mm_SI ⟨hx, hb, hml, hown, hts⟩ (mmt_in l _ _ _ _ hw) (va_cwS 3 hts (lw_S q1422 q1423 q120 q1424) rfl rfl rfl cd_X8_in.2 ⟨Nat.le_of_ble_eq_true rfl, Nat.le_of_ble_eq_true rfl⟩) hW hS rfl hl.1 rfl (Nat.le_of_ble_eq_true rfl) dX8_taken_6 (fun r2 σ1 H locs hw hW hS => ?_)
  obtain ⟨hz_r2, hw⟩ := hw
  refine lv_if_ne (tgt := 15) hx hb dX8_taken_9 (by decide) (fun c11 => ?_) (fun c11 => ?_)
  · have hw := hw.2 c11
    refine lv_aload_n hx hb dX8_taken_15 rfl (lv_at hl 0 rfl) ?_
    refine lv_iload_n hx hb dX8_taken_16 rfl (lv_at hl 1 rfl) ?_
    refine mm_VI ⟨hx, hb, hml, hown, hts⟩ (mmt_isOne l _ _ hw) (cwV 1 hts (lw_V q1438 q1440 qs61 q120 q1441) rfl rfl rfl cd_X8_isOne ⟨Nat.le_of_ble_eq_true rfl, Nat.le_of_ble_eq_true rfl⟩) hW (mm_recv hW) hS rfl hl.1 rfl (Nat.le_of_ble_eq_true rfl) dX8_taken_17 (fun r4 σ3 H locs hw hW hS => ?_)
    obtain ⟨hz_r4, hw⟩ := hw
    refine lv_if_ne (tgt := 26) hx hb dX8_taken_20 (by decide) (fun c10 => ?_) (fun c10 => ?_)
    · have hw := hw.2 c10
      refine lv_aload_n hx hb dX8_taken_26 rfl (lv_at hl 0 rfl) ?_
      refine mm_getr hx hb hts hown hW 10 6 (by decide) q1281 dX8_taken_27 ?_
      refine lv_iload_n hx hb dX8_taken_30 rfl (lv_at hl 1 rfl) ?_
      obtain ⟨hin, hw⟩ := hw
      refine mm_ald hx hb hW 5 (by decide) hin dX8_taken_31 ?_
      refine lv_istore_n (lv' := [(3, .int (gg_g σ3 6 a1.toNatClampNeg)), (0, .ref (ad 0)), (1, .int a1), (2, .int a2)]) hx hb dX8_taken_32 rfl hl (by decide) rfl (fun ls hl => ?_)
      obtain ⟨n9, hw⟩ := hw
      exact mmk_taken_33  C0   n9 a1 a2 (gg_g σ3 6 a1.toNatClampNeg) σ3 _ _ _ hw hW hS (lv_sub hl [1, 2, 3, 0] rfl)
    · have hw := hw.1 c10
      refine lv_bipush (v := (-11 : Int32)) hx hb dX8_taken_23 (by decide) ?_
      exact gg_iret (mm_mv D cl E A ad) C0 hW hS hw dX8_taken_25
  · have hw := hw.1 c11
    refine lv_bipush (v := (-2 : Int32)) hx hb dX8_taken_12 (by decide) ?_
    exact gg_iret (mm_mv D cl E A ad) C0 hW hS hw dX8_taken_14
