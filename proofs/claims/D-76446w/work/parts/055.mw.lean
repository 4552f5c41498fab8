theorem cd_X8_sheet : yX8_sheet.cls = RX8 ∧ yX8_sheet.cls ≠ "java/lang/invoke/MethodHandle" ∧ yX8_sheet.cls ≠ "java/lang/invoke/VarHandle" ∧ (parseMethodDescriptor yX8_sheet.desc).map (fun d => d.parameters.length) = some 3 := by decide +kernel
/-! GleanersForGapsModel.sheet(III)I -/
def mmw_sheet_77  (Q : Int32 → gg_S → Prop)  : Nat → Int32 → Int32 → Int32 → Int32 → gg_S → Prop
  | 0, _, _, _, _, _ => False
  | n + 1, x1, x2, x3, x4, σ =>
    (((x3 ≤ x4) → Q (1 : Int32) σ) ∧ (¬ (x3 ≤ x4) → (((x2 < 0) → Q (1 : Int32) σ) ∧ (¬ (x2 < 0) → vp_in (((40 : Int32) * x1) + x4) 160 ∧ (∀ σ8 : gg_S, σ8 = gg_s σ 21 (((40 : Int32) * x1) + x4).toNatClampNeg (0 : Int32) → mmw_sheet_77 Q n x1 x2 x3 (x4 + (1 : Int32)) σ8)))))
def mmw_sheet_59  (Q : Int32 → gg_S → Prop)  (x1 : Int32) (x2 : Int32) (x3 : Int32) (s1 : Int32) (s2 : Int32) (σ : gg_S) : Prop :=
    vp_in s1 4 ∧ (s2 = 0 ∨ s2 = 1) ∧ (∀ σ5 : gg_S, σ5 = gg_s σ 18 s1.toNatClampNeg s2 → vp_in x1 4 ∧ (∀ σ6 : gg_S, σ6 = gg_s σ5 19 x1.toNatClampNeg x2 → vp_in x1 4 ∧ (∀ σ7 : gg_S, σ7 = gg_s σ6 20 x1.toNatClampNeg x3 → ∃ k9, mmw_sheet_77 Q k9 x1 x2 x3 (0 : Int32) σ7)))
def mmw_sheet_45  (Q : Int32 → gg_S → Prop)  (x1 : Int32) (x2 : Int32) (x3 : Int32) (σ : gg_S) : Prop :=
    (((x2 < 0) → mmw_sheet_59 Q x1 x2 x3 x1 (0 : Int32) σ) ∧ (¬ (x2 < 0) → mmw_sheet_59 Q x1 x2 x3 x1 (1 : Int32) σ))
def mmw_sheet_34  (Q : Int32 → gg_S → Prop)  (x1 : Int32) (x2 : Int32) (x3 : Int32) (σ : gg_S) : Prop :=
    (((x2 < 0) → mmw_sheet_45 Q x1 x2 x3 σ) ∧ (¬ (x2 < 0) → (((0 ≤ x3) → mmw_sheet_45 Q x1 x2 x3 σ) ∧ (¬ (0 ≤ x3) → Q (-14 : Int32) σ))))
def mmw_sheet  (a1 : Int32) (a2 : Int32) (a3 : Int32) (σ : gg_S) (Q : Int32 → gg_S → Prop) : Prop :=
    (mmw_isSheet a1 σ (fun r2 σ1 => (((r2 = 0) → Q (-2 : Int32) σ1) ∧ (¬ (r2 = 0) → (mmw_in ((a2).toInt64) (-1 : Int64) (2 : Int64) σ1 (fun r4 σ3 => (((r4 = 0) → Q (-2 : Int32) σ3) ∧ (¬ (r4 = 0) → (((a2 < 0) → mmw_sheet_34 Q a1 a2 a3 σ3) ∧ (¬ (a2 < 0) → (((a3 ≤ (40 : Int32)) → mmw_sheet_34 Q a1 a2 a3 σ3) ∧ (¬ (a3 ≤ (40 : Int32)) → Q (-2 : Int32) σ3))))))))))))
abbrev mmr_sheet : Room := { frames := 2, cells := 0, slots := 0, locals := 45 }
set_option maxHeartbeats 4000000 in
set_option maxRecDepth 100000 in
theorem mmk_sheet_77 {p : Program} {l : Launch} {e : Env} {s : State} {m : MethodId} {args : Array Value} {below : List Frame} {meth : Method} {c : Code} {D : va_G} {cl : List vw_C} {E : ClassId × ClassId} {A : Nat → Prop} {ad : Nat → Nat} {Q : Int32 → gg_S → Prop}   (C0 : gg_C p s m args meth c RX8 cX8_sheet 5 (some .int))  :
    ∀ n : Nat, ∀ (x1 : Int32) (x2 : Int32) (x3 : Int32) (x4 : Int32) (σ : gg_S) (H : Heap) (locs : List Loc) (ls : Array Slot), mmw_sheet_77 Q n x1 x2 x3 x4 σ → mm_W D cl E A ad σ s H → va_S A s.heap H locs → lv_has ls 5 [(0, .ref (ad 0)), (1, .int x1), (2, .int x2), (3, .int x3), (4, .int x4)] → W p l e mmr_sheet s m args below meth c H locs 0 0 (MQ below (va_Qi Q (fun u t => mm_W D cl E A ad u t t.heap) A) args s 0 0 A) (F0 m 77 ls []) := by
  obtain ⟨hx, hb, hml, hown, hts, hr, hlocks⟩ := id C0
  intro n
  induction n with
  | zero =>
    intro x1 x2 x3 x4 σ H locs ls hw hW hS hl
    exact absurd hw (by unfold mmw_sheet_77; exact id)
  | succ n ih =>
    intro x1 x2 x3 x4 σ H locs ls hw hW hS hl
    unfold mmw_sheet_77 at hw
    refine lv_iload hx hb dX8_sheet_77 (lv_at hl 4 rfl) ?_
    refine lv_iload_n hx hb dX8_sheet_79 rfl (lv_at hl 3 rfl) ?_
    refine lv_icmp_ge (tgt := 106) hx hb dX8_sheet_80 (by decide) (fun c10 => ?_) (fun c10 => ?_)
    · have hw := hw.1 c10
      refine lv_iconst (v := (1 : Int32)) hx hb dX8_sheet_106 (by decide) ?_
      exact gg_iret (mm_mv D cl E A ad) C0 hW hS hw dX8_sheet_107
    · have hw := hw.2 c10
      refine lv_iload_n hx hb dX8_sheet_83 rfl (lv_at hl 2 rfl) ?_
      refine lv_if_lt (tgt := 106) hx hb dX8_sheet_84 (by decide) (fun c9 => ?_) (fun c9 => ?_)
      · have hw := hw.1 c9
        refine lv_iconst (v := (1 : Int32)) hx hb dX8_sheet_106 (by decide) ?_
        exact gg_iret (mm_mv D cl E A ad) C0 hW hS hw dX8_sheet_107
      · have hw := hw.2 c9
        refine lv_aload_n hx hb dX8_sheet_87 rfl (lv_at hl 0 rfl) ?_
        refine mm_getr hx hb hts hown hW 46 21 (by decide) q1317 dX8_sheet_88 ?_
        refine lv_bipush (v := (40 : Int32)) hx hb dX8_sheet_91 (by decide) ?_
        refine lv_iload_n hx hb dX8_sheet_93 rfl (lv_at hl 1 rfl) ?_
        refine lv_imul hx hb dX8_sheet_94 ?_
        refine lv_iload hx hb dX8_sheet_95 (lv_at hl 4 rfl) ?_
        refine lv_iadd hx hb dX8_sheet_97 ?_
        refine lv_iconst (v := (0 : Int32)) hx hb dX8_sheet_98 (by decide) ?_
        obtain ⟨hin, hw⟩ := hw
        refine mm_ast hx hb hW hS 20 (by decide) hin dX8_sheet_99 (fun H locs hW hS => ?_)
        obtain ⟨σ8, eσ8⟩ : ∃ z, z = gg_s σ 21 (((40 : Int32) * x1) + x4).toNatClampNeg (0 : Int32) := ⟨_, rfl⟩
        rw [← eσ8] at hW
        have hw := hw σ8 eσ8
        refine lv_iinc (v := (x4 + (1 : Int32))) (lv' := [(4, .int (x4 + (1 : Int32))), (0, .ref (ad 0)), (1, .int x1), (2, .int x2), (3, .int x3)]) hx hb dX8_sheet_100 hl (k := 4) rfl rfl (by decide) rfl (fun ls hl => ?_)
        refine lv_goto (tgt := 77) hx hb dX8_sheet_103 (by decide) ?_
        exact ih x1 x2 x3 (x4 + (1 : Int32)) σ8 _ _ _ hw hW hS (lv_sub hl [1, 2, 3, 4, 0] rfl)
set_option maxHeartbeats 4000000 in
set_option maxRecDepth 100000 in
theorem mmk_sheet_59 {p : Program} {l : Launch} {e : Env} {s : State} {m : MethodId} {args : Array Value} {below : List Frame} {meth : Method} {c : Code} {D : va_G} {cl : List vw_C} {E : ClassId × ClassId} {A : Nat → Prop} {ad : Nat → Nat} {Q : Int32 → gg_S → Prop}   (C0 : gg_C p s m args meth c RX8 cX8_sheet 5 (some .int))  :
    ∀ (x1 : Int32) (x2 : Int32) (x3 : Int32) (s1 : Int32) (s2 : Int32) (σ : gg_S) (H : Heap) (locs : List Loc) (ls : Array Slot), mmw_sheet_59 Q x1 x2 x3 s1 s2 σ → mm_W D cl E A ad σ s H → va_S A s.heap H locs → lv_has ls 5 [(0, .ref (ad 0)), (1, .int x1), (2, .int x2), (3, .int x3)] → W p l e mmr_sheet s m args below meth c H locs 0 0 (MQ below (va_Qi Q (fun u t => mm_W D cl E A ad u t t.heap) A) args s 0 0 A) (F0 m 59 ls [.int s2, .int s1, .ref (ad 18)]) := by
  obtain ⟨hx, hb, hml, hown, hts, hr, hlocks⟩ := id C0
  intro x1 x2 x3 s1 s2 σ H locs ls hw hW hS hl
  unfold mmw_sheet_59 at hw
  obtain ⟨hin, hw⟩ := hw
  obtain ⟨hz, hw⟩ := hw
  refine mm_zst hx hb hW hS hz hin dX8_sheet_59 (fun H locs hW hS => ?_)
  obtain ⟨σ5, eσ5⟩ : ∃ z, z = gg_s σ 18 s1.toNatClampNeg s2 := ⟨_, rfl⟩
  rw [← eσ5] at hW
  have hw := hw σ5 eσ5
  refine lv_aload_n hx hb dX8_sheet_60 rfl (lv_at hl 0 rfl) ?_
  refine mm_getr hx hb hts hown hW 44 19 (by decide) q1315 dX8_sheet_61 ?_
  refine lv_iload_n hx hb dX8_sheet_64 rfl (lv_at hl 1 rfl) ?_
  refine lv_iload_n hx hb dX8_sheet_65 rfl (lv_at hl 2 rfl) ?_
  obtain ⟨hin, hw⟩ := hw
  refine mm_ast hx hb hW hS 18 (by decide) hin dX8_sheet_66 (fun H locs hW hS => ?_)
  obtain ⟨σ6, eσ6⟩ : ∃ z, z = gg_s σ5 19 x1.toNatClampNeg x2 := ⟨_, rfl⟩
  rw [← eσ6] at hW
  have hw := hw σ6 eσ6
  refine lv_aload_n hx hb dX8_sheet_67 rfl (lv_at hl 0 rfl) ?_
  refine mm_getr hx hb hts hown hW 45 20 (by decide) q1316 dX8_sheet_68 ?_
  refine lv_iload_n hx hb dX8_sheet_71 rfl (lv_at hl 1 rfl) ?_
  refine lv_iload_n hx hb dX8_sheet_72 rfl (lv_at hl 3 rfl) ?_
  obtain ⟨hin, hw⟩ := hw
  refine mm_ast hx hb hW hS 19 (by decide) hin dX8_sheet_73 (fun H locs hW hS => ?_)
  obtain ⟨σ7, eσ7⟩ : ∃ z, z = gg_s σ6 20 x1.toNatClampNeg x3 := ⟨_, rfl⟩
  rw [← eσ7] at hW
  have hw := hw σ7 eσ7
  refine lv_iconst (v := (0 : Int32)) hx hb dX8_sheet_74 (by decide) ?_
  refine lv_istore (lv' := [(4, .int (0 : Int32)), (0, .ref (ad 0)), (1, .int x1), (2, .int x2), (3, .int x3)]) hx hb dX8_sheet_75 hl (by decide) rfl (fun ls hl => ?_)
  obtain ⟨n9, hw⟩ := hw
  exact mmk_sheet_77  C0   n9 x1 x2 x3 (0 : Int32) σ7 _ _ _ hw hW hS (lv_sub hl [1, 2, 3, 4, 0] rfl)
set_option maxHeartbeats 4000000 in
set_option maxRecDepth 100000 in
theorem mmk_sheet_45 {p : Program} {l : Launch} {e : Env} {s : State} {m : MethodId} {args : Array Value} {below : List Frame} {meth : Method} {c : Code} {D : va_G} {cl : List vw_C} {E : ClassId × ClassId} {A : Nat → Prop} {ad : Nat → Nat} {Q : Int32 → gg_S → Prop}   (C0 : gg_C p s m args meth c RX8 cX8_sheet 5 (some .int))  :
    ∀ (x1 : Int32) (x2 : Int32) (x3 : Int32) (σ : gg_S) (H : Heap) (locs : List Loc) (ls : Array Slot), mmw_sheet_45 Q x1 x2 x3 σ → mm_W D cl E A ad σ s H → va_S A s.heap H locs → lv_has ls 5 [(0, .ref (ad 0)), (1, .int x1), (2, .int x2), (3, .int x3)] → W p l e mmr_sheet s m args below meth c H locs 0 0 (MQ below (va_Qi Q (fun u t => mm_W D cl E A ad u t t.heap) A) args s 0 0 A) (F0 m 45 ls []) := by
  obtain ⟨hx, hb, hml, hown, hts, hr, hlocks⟩ := id C0
  intro x1 x2 x3 σ H locs ls hw hW hS hl
  unfold mmw_sheet_45 at hw
  refine lv_aload_n hx hb dX8_sheet_45 rfl (lv_at hl 0 rfl) ?_
  refine mm_getr hx hb hts hown hW 43 18 (by decide) q1314 dX8_sheet_46 ?_
  refine lv_iload_n hx hb dX8_sheet_49 rfl (lv_at hl 1 rfl) ?_
  refine lv_iload_n hx hb dX8_sheet_50 rfl (lv_at hl 2 rfl) ?_
  refine lv_if_lt (tgt := 58) hx hb dX8_sheet_51 (by decide) (fun c11 => ?_) (fun c11 => ?_)
  · have hw := hw.1 c11
    refine lv_iconst (v := (0 : Int32)) hx hb dX8_sheet_58 (by decide) ?_
    exact mmk_sheet_59  C0   x1 x2 x3 x1 (0 : Int32) σ _ _ _ hw hW hS (hl)
  · have hw := hw.2 c11
    refine lv_iconst (v := (1 : Int32)) hx hb dX8_sheet_54 (by decide) ?_
    refine lv_goto (tgt := 59) hx hb dX8_sheet_55 (by decide) ?_
    exact mmk_sheet_59  C0   x1 x2 x3 x1 (1 : Int32) σ _ _ _ hw hW hS (hl)
set_option maxHeartbeats 4000000 in
set_option maxRecDepth 100000 in
theorem mmk_sheet_34 {p : Program} {l : Launch} {e : Env} {s : State} {m : MethodId} {args : Array Value} {below : List Frame} {meth : Method} {c : Code} {D : va_G} {cl : List vw_C} {E : ClassId × ClassId} {A : Nat → Prop} {ad : Nat → Nat} {Q : Int32 → gg_S → Prop}   (C0 : gg_C p s m args meth c RX8 cX8_sheet 5 (some .int))  :
    ∀ (x1 : Int32) (x2 : Int32) (x3 : Int32) (σ : gg_S) (H : Heap) (locs : List Loc) (ls : Array Slot), mmw_sheet_34 Q x1 x2 x3 σ → mm_W D cl E A ad σ s H → va_S A s.heap H locs → lv_has ls 5 [(0, .ref (ad 0)), (1, .int x1), (2, .int x2), (3, .int x3)] → W p l e mmr_sheet s m args below meth c H locs 0 0 (MQ below (va_Qi Q (fun u t => mm_W D cl E A ad u t t.heap) A) args s 0 0 A) (F0 m 34 ls []) := by
  obtain ⟨hx, hb, hml, hown, hts, hr, hlocks⟩ := id C0
  intro x1 x2 x3 σ H locs ls hw hW hS hl
  unfold mmw_sheet_34 at hw
  refine lv_iload_n hx hb dX8_sheet_34 rfl (lv_at hl 2 rfl) ?_
  refine lv_if_lt (tgt := 45) hx hb dX8_sheet_35 (by decide) (fun c13 => ?_) (fun c13 => ?_)
  · have hw := hw.1 c13
    exact mmk_sheet_45  C0   x1 x2 x3 σ _ _ _ hw hW hS (hl)
  · have hw := hw.2 c13
    refine lv_iload_n hx hb dX8_sheet_38 rfl (lv_at hl 3 rfl) ?_
    refine lv_if_ge (tgt := 45) hx hb dX8_sheet_39 (by decide) (fun c12 => ?_) (fun c12 => ?_)
    · have hw := hw.1 c12
      exact mmk_sheet_45  C0   x1 x2 x3 σ _ _ _ hw hW hS (hl)
    · have hw := hw.2 c12
      refine lv_bipush (v := (-14 : Int32)) hx hb dX8_sheet_42 (by decide) ?_
      exact gg_iret (mm_mv D cl E A ad) C0 hW hS hw dX8_sheet_44
set_option maxHeartbeats 4000000 in
set_option maxRecDepth 100000 in
theorem mmt_sheet (l : Launch) {D : va_G} {cl : List vw_C} {E : ClassId × ClassId} {A : Nat → Prop} {ad : Nat → Nat}  (a1 : Int32) (a2 : Int32) (a3 : Int32) (σ : gg_S) {Q : Int32 → gg_S → Prop} (hw : mmw_sheet a1 a2 a3 σ Q) :
    Met l yX8_sheet (ws_ yX8_sheet cX8_sheet 5 (some .int)) mmr_sheet (va_Pc [.ref (ad 0), .int a1, .int a2, .int a3] (fun U => mm_W D cl E A ad σ U U.heap)) (va_Qi Q (fun u t => mm_W D cl E A ad u t t.heap) A) 0 0 A := by
  refine gg_entry (W0 := fun s H => mm_W D cl E A ad σ s H) (by decide) (Nat.le_of_ble_eq_true rfl) ?_
  intro p e s m args below meth c C0 hW ls hl
  have C0 : gg_C p s m args meth c RX8 cX8_sheet 5 (some .int) := C0
  obtain ⟨hx, hb, hml, hown, hts, hr, hlocks⟩ := id C0
  have hl : lv_has ls 5 [(0, .ref (ad 0)), (1, .int a1), (2, .int a2), (3, .int a3)] := hl
  have hS : va_S A s.heap s.heap [] := va_S.rf
  unfold mmw_sheet at hw
  refine lv_iload_n hx hb dX8_sheet_0 rfl (lv_at hl 1 rfl) ?_
  refine mm_SI ⟨hx, hb, hml, hown, hts⟩ (mmt_isSheet l _ _ hw) (va_cwS 1 hts (lw_S q1681 q1682 q120 q1683) rfl rfl rfl cd_X8_isSheet.2 ⟨Nat.le_of_ble_eq_true rfl, Nat.le_of_ble_eq_true rfl⟩) hW hS rfl hl.1 rfl (Nat.le_of_ble_eq_true rfl) dX8_sheet_1 (fun r2 σ1 H locs hw hW hS => ?_)
  obtain ⟨hz_r2, hw⟩ := hw
  refine lv_if_eq (tgt := 31) hx hb dX8_sheet_4 (by decide) (fun c17 => ?_) (fun c17 => ?_)
  · have hw := hw.1 c17
    refine lv_bipush (v := (-2 : Int32)) hx hb dX8_sheet_31 (by decide) ?_
    exact gg_iret (mm_mv D cl E A ad) C0 hW hS hw dX8_sheet_33
  · have hw := hw.2 c17
    refine lv_iload_n hx hb dX8_sheet_7 rfl (lv_at hl 2 rfl) ?_
    refine lv_i2l (v := (a2).toInt64) hx hb dX8_sheet_8 rfl ?_
    refine lv_ldc2 (own := RX8) (v := (-1 : Int64)) hx hb hown (hts _ q1705) dX8_sheet_9 ?_
    refine lv_ldc2 (own := RX8) (v := (2 : Int64)) hx hb hown (hts _ q1437) dX8_sheet_12 ?_
    refine mm_SI ⟨hx, hb, hml, hown, hts⟩ (mmt_in l _ _ _ _ hw) (va_cwS 3 hts (lw_S q1422 q1423 q120 q1424) rfl rfl rfl cd_X8_in.2 ⟨Nat.le_of_ble_eq_true rfl, Nat.le_of_ble_eq_true rfl⟩) hW hS rfl hl.1 rfl (Nat.le_of_ble_eq_true rfl) dX8_sheet_15 (fun r4 σ3 H locs hw hW hS => ?_)
    obtain ⟨hz_r4, hw⟩ := hw
    refine lv_if_eq (tgt := 31) hx hb dX8_sheet_18 (by decide) (fun c16 => ?_) (fun c16 => ?_)
    · have hw := hw.1 c16
      refine lv_bipush (v := (-2 : Int32)) hx hb dX8_sheet_31 (by decide) ?_
      exact gg_iret (mm_mv D cl E A ad) C0 hW hS hw dX8_sheet_33
    · have hw := hw.2 c16
      refine lv_iload_n hx hb dX8_sheet_21 rfl (lv_at hl 2 rfl) ?_
      refine lv_if_lt (tgt := 34) hx hb dX8_sheet_22 (by decide) (fun c15 => ?_) (fun c15 => ?_)
      · have hw := hw.1 c15
        exact mmk_sheet_34  C0   a1 a2 a3 σ3 _ _ _ hw hW hS (hl)
      · have hw := hw.2 c15
        refine lv_iload_n hx hb dX8_sheet_25 rfl (lv_at hl 3 rfl) ?_
        refine lv_bipush (v := (40 : Int32)) hx hb dX8_sheet_26 (by decide) ?_
        refine lv_icmp_le (tgt := 34) hx hb dX8_sheet_28 (by decide) (fun c14 => ?_) (fun c14 => ?_)
        · have hw := hw.1 c14
          exact mmk_sheet_34  C0   a1 a2 a3 σ3 _ _ _ hw hW hS (hl)
        · have hw := hw.2 c14
          refine lv_bipush (v := (-2 : Int32)) hx hb dX8_sheet_31 (by decide) ?_
          exact gg_iret (mm_mv D cl E A ad) C0 hW hS hw dX8_sheet_33
theorem cd_X8_film : yX8_film.cls = RX8 ∧ yX8_film.cls ≠ "java/lang/invoke/MethodHandle" ∧ yX8_film.cls ≠ "java/lang/invoke/VarHandle" ∧ (parseMethodDescriptor yX8_film.desc).map (fun d => d.parameters.length) = some 3 := by decide +kernel
/-! GleanersForGapsModel.film(III)I -/
def mmw_film_59  (Q : Int32 → gg_S → Prop)  : Nat → Int32 → Int32 → Int32 → gg_S → Prop
  | 0, _, _, _, _ => False
  | n + 1, x1, x4, x5, σ =>
    (((x4 ≤ x5) → Q x4 σ) ∧ (¬ (x4 ≤ x5) → vp_in x5 24 ∧ vp_in (((40 : Int32) * x1) + x5) 160 ∧ (∀ σ15 : gg_S, σ15 = gg_s σ 21 (((40 : Int32) * x1) + x5).toNatClampNeg (gg_g σ 10 x5.toNatClampNeg) → mmw_film_59 Q n x1 x4 (x5 + (1 : Int32)) σ15)))
def mmw_film  (a1 : Int32) (a2 : Int32) (a3 : Int32) (σ : gg_S) (Q : Int32 → gg_S → Prop) : Prop :=
    (mmw_isSheet a1 σ (fun r2 σ1 => (((r2 = 0) → Q (-2 : Int32) σ1) ∧ (¬ (r2 = 0) → (mmw_isOne a2 σ1 (fun r4 σ3 => (((r4 = 0) → Q (-2 : Int32) σ3) ∧ (¬ (r4 = 0) → (mmw_isRow a3 σ3 (fun r6 σ5 => (((r6 = 0) → Q (-2 : Int32) σ5) ∧ (¬ (r6 = 0) → (mmw_runsOf a3 σ5 (fun r8 σ7 => (mmw_sheet a1 (0 : Int32) r8 σ7 (fun r10 σ9 => (mmw_laysAside σ9 (fun σ11 => (mmw_gleans a2 a3 σ11 (fun r13 σ12 => (mmw_laysBack σ12 (fun σ14 => ∃ k9, mmw_film_59 Q k9 a1 r8 (0 : Int32) σ14))))))))))))))))))))))
abbrev mmr_film : Room := { frames := 52, cells := 0, slots := 0, locals := 1207 }
set_option maxHeartbeats 4000000 in
set_option maxRecDepth 100000 in
theorem mmk_film_59 {p : Program} {l : Launch} {e : Env} {s : State} {m : MethodId} {args : Array Value} {below : List Frame} {meth : Method} {c : Code} {D : va_G} {cl : List vw_C} {E : ClassId × ClassId} {A : Nat → Prop} {ad : Nat → Nat} {Q : Int32 → gg_S → Prop}   (C0 : gg_C p s m args meth c RX8 cX8_film 6 (some .int))  :
    ∀ n : Nat, ∀ (x1 : Int32) (x4 : Int32) (x5 : Int32) (σ : gg_S) (H : Heap) (locs : List Loc) (ls : Array Slot), mmw_film_59 Q n x1 x4 x5 σ → mm_W D cl E A ad σ s H → va_S A s.heap H locs → lv_has ls 6 [(0, .ref (ad 0)), (1, .int x1), (4, .int x4), (5, .int x5)] → W p l e mmr_film s m args below meth c H locs 0 0 (MQ below (va_Qi Q (fun u t => mm_W D cl E A ad u t t.heap) A) args s 0 0 A) (F0 m 59 ls []) := by
  obtain ⟨hx, hb, hml, hown, hts, hr, hlocks⟩ := id C0
  intro n
  induction n with
  | zero =>
    intro x1 x4 x5 σ H locs ls hw hW hS hl
    exact absurd hw (by unfold mmw_film_59; exact id)
  | succ n ih =>
    intro x1 x4 x5 σ H locs ls hw hW hS hl
    unfold mmw_film_59 at hw
    refine lv_iload hx hb dX8_film_59 (lv_at hl 3 rfl) ?_
    refine lv_iload hx hb dX8_film_61 (lv_at hl 2 rfl) ?_
    refine lv_icmp_ge (tgt := 91) hx hb dX8_film_63 (by decide) (fun c16 => ?_) (fun c16 => ?_)
    · have hw := hw.1 c16
      refine lv_iload hx hb dX8_film_91 (lv_at hl 2 rfl) ?_
      exact gg_iret (mm_mv D cl E A ad) C0 hW hS hw dX8_film_93
    · have hw := hw.2 c16
      refine lv_aload_n hx hb dX8_film_66 rfl (lv_at hl 0 rfl) ?_
      refine mm_getr hx hb hts hown hW 46 21 (by decide) q1317 dX8_film_67 ?_
      refine lv_bipush (v := (40 : Int32)) hx hb dX8_film_70 (by decide) ?_
      refine lv_iload_n hx hb dX8_film_72 rfl (lv_at hl 1 rfl) ?_
      refine lv_imul hx hb dX8_film_73 ?_
      refine lv_iload hx hb dX8_film_74 (lv_at hl 3 rfl) ?_
      refine lv_iadd hx hb dX8_film_76 ?_
      refine lv_aload_n hx hb dX8_film_77 rfl (lv_at hl 0 rfl) ?_
      refine mm_getr hx hb hts hown hW 30 10 (by decide) q1301 dX8_film_78 ?_
      refine lv_iload hx hb dX8_film_81 (lv_at hl 3 rfl) ?_
      obtain ⟨hin, hw⟩ := hw
      refine mm_ald hx hb hW 9 (by decide) hin dX8_film_83 ?_
      obtain ⟨hin, hw⟩ := hw
      refine mm_ast hx hb hW hS 20 (by decide) hin dX8_film_84 (fun H locs hW hS => ?_)
      obtain ⟨σ15, eσ15⟩ : ∃ z, z = gg_s σ 21 (((40 : Int32) * x1) + x5).toNatClampNeg (gg_g σ 10 x5.toNatClampNeg) := ⟨_, rfl⟩
      rw [← eσ15] at hW
      have hw := hw σ15 eσ15
      refine lv_iinc (v := (x5 + (1 : Int32))) (lv' := [(5, .int (x5 + (1 : Int32))), (0, .ref (ad 0)), (1, .int x1), (4, .int x4)]) hx hb dX8_film_85 hl (k := 3) rfl rfl (by decide) rfl (fun ls hl => ?_)
      refine lv_goto (tgt := 59) hx hb dX8_film_88 (by decide) ?_
      exact ih x1 x4 (x5 + (1 : Int32)) σ15 _ _ _ hw hW hS (lv_sub hl [1, 2, 3, 0] rfl)
set_option maxHeartbeats 4000000 in
set_option maxRecDepth 100000 in
theorem mmt_film (l : Launch) {D : va_G} {cl : List vw_C} {E : ClassId × ClassId} {A : Nat → Prop} {ad : Nat → Nat}  (a1 : Int32) (a2 : Int32) (a3 : Int32) (σ : gg_S) {Q : Int32 → gg_S → Prop} (hw : mmw_film a1 a2 a3 σ Q) :
    Met l yX8_film (ws_ yX8_film cX8_film 6 (some .int)) mmr_film (va_Pc [.ref (ad 0), .int a1, .int a2, .int a3] (fun U => mm_W D cl E A ad σ U U.heap)) (va_Qi Q (fun u t => mm_W D cl E A ad u t t.heap) A) 0 0 A := by
  refine gg_entry (W0 := fun s H => mm_W D cl E A ad σ s H) (by decide) (Nat.le_of_ble_eq_true rfl) ?_
  intro p e s m args below meth c C0 hW ls hl
  have C0 : gg_C p s m args meth c RX8 cX8_film 6 (some .int) := C0
  obtain ⟨hx, hb, hml, hown, hts, hr, hlocks⟩ := id C0
  have hl : lv_has ls 6 [(0, .ref (ad 0)), (1, .int a1), (2, .int a2), (3, .int a3)] := hl
  have hS : va_S A s.heap s.heap [] := va_S.rf
  unfold mmw_film at hw
  refine lv_iload_n hx hb dX8_film_0 rfl (lv_at hl 1 rfl) ?_
  refine mm_SI ⟨hx, hb, hml, hown, hts⟩ (mmt_isSheet l _ _ hw) (va_cwS 1 hts (lw_S q1681 q1682 q120 q1683) rfl rfl rfl cd_X8_isSheet.2 ⟨Nat.le_of_ble_eq_true rfl, Nat.le_of_ble_eq_true rfl⟩) hW hS rfl hl.1 rfl (Nat.le_of_ble_eq_true rfl) dX8_film_1 (fun r2 σ1 H locs hw hW hS => ?_)
  obtain ⟨hz_r2, hw⟩ := hw
  refine lv_if_eq (tgt := 22) hx hb dX8_film_4 (by decide) (fun c19 => ?_) (fun c19 => ?_)
  · have hw := hw.1 c19
    refine lv_bipush (v := (-2 : Int32)) hx hb dX8_film_22 (by decide) ?_
    exact gg_iret (mm_mv D cl E A ad) C0 hW hS hw dX8_film_24
  · have hw := hw.2 c19
    refine lv_aload_n hx hb dX8_film_7 rfl (lv_at hl 0 rfl) ?_
    refine lv_iload_n hx hb dX8_film_8 rfl (lv_at hl 2 rfl) ?_
    refine mm_VI ⟨hx, hb, hml, hown, hts⟩ (mmt_isOne l _ _ hw) (cwV 1 hts (lw_V q1438 q1440 qs61 q120 q1441) rfl rfl rfl cd_X8_isOne ⟨Nat.le_of_ble_eq_true rfl, Nat.le_of_ble_eq_true rfl⟩) hW (mm_recv hW) hS rfl hl.1 rfl (Nat.le_of_ble_eq_true rfl) dX8_film_9 (fun r4 σ3 H locs hw hW hS => ?_)
    obtain ⟨hz_r4, hw⟩ := hw
    refine lv_if_eq (tgt := 22) hx hb dX8_film_12 (by decide) (fun c18 => ?_) (fun c18 => ?_)
    · have hw := hw.1 c18
      refine lv_bipush (v := (-2 : Int32)) hx hb dX8_film_22 (by decide) ?_
      exact gg_iret (mm_mv D cl E A ad) C0 hW hS hw dX8_film_24
    · have hw := hw.2 c18
      refine lv_iload_n hx hb dX8_film_15 rfl (lv_at hl 3 rfl) ?_
      refine mm_SI ⟨hx, hb, hml, hown, hts⟩ (mmt_isRow l _ _ hw) (va_cwS 1 hts (lw_S q1418 q1419 q120 q1420) rfl rfl rfl cd_X8_isRow.2 ⟨Nat.le_of_ble_eq_true rfl, Nat.le_of_ble_eq_true rfl⟩) hW hS rfl hl.1 rfl (Nat.le_of_ble_eq_true rfl) dX8_film_16 (fun r6 σ5 H locs hw hW hS => ?_)
      obtain ⟨hz_r6, hw⟩ := hw
      refine lv_if_ne (tgt := 25) hx hb dX8_film_19 (by decide) (fun c17 => ?_) (fun c17 => ?_)
      · have hw := hw.2 c17
        refine lv_aload_n hx hb dX8_film_25 rfl (lv_at hl 0 rfl) ?_
        refine lv_iload_n hx hb dX8_film_26 rfl (lv_at hl 3 rfl) ?_
        refine mm_VI ⟨hx, hb, hml, hown, hts⟩ (mmt_runsOf l _ _ hw) (cwV 1 hts (lw_V q1531 q1533 qs80 q120 q1534) rfl rfl rfl cd_X8_runsOf ⟨Nat.le_of_ble_eq_true rfl, Nat.le_of_ble_eq_true rfl⟩) hW (mm_recv hW) hS rfl hl.1 rfl (Nat.le_of_ble_eq_true rfl) dX8_film_27 (fun r8 σ7 H locs hw hW hS => ?_)
        refine lv_istore (lv' := [(4, .int r8), (0, .ref (ad 0)), (1, .int a1), (2, .int a2), (3, .int a3)]) hx hb dX8_film_30 hl (by decide) rfl (fun ls hl => ?_)
        refine lv_aload_n hx hb dX8_film_32 rfl (lv_at hl 1 rfl) ?_
        refine lv_iload_n hx hb dX8_film_33 rfl (lv_at hl 2 rfl) ?_
        refine lv_iconst (v := (0 : Int32)) hx hb dX8_film_34 (by decide) ?_
        refine lv_iload hx hb dX8_film_35 (lv_at hl 0 rfl) ?_
        refine mm_VI ⟨hx, hb, hml, hown, hts⟩ (mmt_sheet l _ _ _ _ hw) (cwV 3 hts (lw_V q1701 q1702 q1703 q120 q1704) rfl rfl rfl cd_X8_sheet ⟨Nat.le_of_ble_eq_true rfl, Nat.le_of_ble_eq_true rfl⟩) hW (mm_recv hW) hS rfl hl.1 rfl (Nat.le_of_ble_eq_true rfl) dX8_film_37 (fun r10 σ9 H locs hw hW hS => ?_)
        refine lv_pop hx hb dX8_film_40 rfl ?_
        refine lv_aload_n hx hb dX8_film_41 rfl (lv_at hl 1 rfl) ?_
        refine mm_VV ⟨hx, hb, hml, hown, hts⟩ (mmt_laysAside l _ hw) (cwV 0 hts (lw_V q1623 q1625 qs92 q120 q1626) rfl rfl rfl cd_X8_laysAside ⟨Nat.le_of_ble_eq_true rfl, Nat.le_of_ble_eq_true rfl⟩) hW (mm_recv hW) hS rfl hl.1 rfl (Nat.le_of_ble_eq_true rfl) dX8_film_42 (fun σ11 H locs hw hW hS => ?_)
        refine lv_aload_n hx hb dX8_film_45 rfl (lv_at hl 1 rfl) ?_
        refine lv_iload_n hx hb dX8_film_46 rfl (lv_at hl 3 rfl) ?_
        refine lv_iload_n hx hb dX8_film_47 rfl (lv_at hl 4 rfl) ?_
        refine mm_VI ⟨hx, hb, hml, hown, hts⟩ (mmt_gleans l _ _ _ hw) (cwV 2 hts (lw_V q1587 q1589 qs86 q120 q1590) rfl rfl rfl cd_X8_gleans ⟨Nat.le_of_ble_eq_true rfl, Nat.le_of_ble_eq_true rfl⟩) hW (mm_recv hW) hS rfl hl.1 rfl (Nat.le_of_ble_eq_true rfl) dX8_film_48 (fun r13 σ12 H locs hw hW hS => ?_)
        refine lv_pop hx hb dX8_film_51 rfl ?_
        refine lv_aload_n hx hb dX8_film_52 rfl (lv_at hl 1 rfl) ?_
        refine mm_VV ⟨hx, hb, hml, hown, hts⟩ (mmt_laysBack l _ hw) (cwV 0 hts (lw_V q1627 q1629 qs93 q120 q1630) rfl rfl rfl cd_X8_laysBack ⟨Nat.le_of_ble_eq_true rfl, Nat.le_of_ble_eq_true rfl⟩) hW (mm_recv hW) hS rfl hl.1 rfl (Nat.le_of_ble_eq_true rfl) dX8_film_53 (fun σ14 H locs hw hW hS => ?_)
        refine lv_iconst (v := (0 : Int32)) hx hb dX8_film_56 (by decide) ?_
        refine lv_istore (lv' := [(5, .int (0 : Int32)), (4, .int r8), (0, .ref (ad 0)), (1, .int a1), (2, .int a2), (3, .int a3)]) hx hb dX8_film_57 hl (by decide) rfl (fun ls hl => ?_)
        obtain ⟨n9, hw⟩ := hw
        exact mmk_film_59  C0   n9 a1 r8 (0 : Int32) σ14 _ _ _ hw hW hS (lv_sub hl [2, 3, 1, 0] rfl)
      · have hw := hw.1 c17
        refine lv_bipush (v := (-2 : Int32)) hx hb dX8_film_22 (by decide) ?_
        exact gg_iret (mm_mv D cl E A ad) C0 hW hS hw dX8_film_24
theorem cd_X8_takenDrawn : yX8_takenDrawn.cls = RX8 ∧ yX8_takenDrawn.cls ≠ "java/lang/invoke/MethodHandle" ∧ yX8_takenDrawn.cls ≠ "java/lang/invoke/VarHandle" ∧ (parseMethodDescriptor yX8_takenDrawn.desc).map (fun d => d.parameters.length) = some 2 := by decide +kernel
/-! GleanersForGapsModel.takenDrawn(II)I -/
def mmw_takenDrawn_65  (Q : Int32 → gg_S → Prop) (K24 : Int32 → Int32 → Int32 → gg_S → Prop) (x2 : Int32) (x3 : Int32) (x4 : Int32) (s1 : Int32) (s2 : Int32) (s3 : Int32) (σ : gg_S) : Prop :=
    vp_in s1 5 ∧ (∀ σ7 : gg_S, σ7 = gg_s σ 4 s1.toNatClampNeg (s2 ||| s3) → K24 x2 x3 (x4 + (1 : Int32)) σ7)
def mmw_takenDrawn_24  (Q : Int32 → gg_S → Prop)  : Nat → Int32 → Int32 → Int32 → gg_S → Prop
  | 0, _, _, _, _ => False
  | n + 1, x2, x3, x4, σ =>
    ((((24 : Int32) ≤ x4) → (mmw_gleans x2 (4 : Int32) σ (fun r5 σ4 => (mmw_laysBack σ4 (fun σ6 => Q r5 σ6))))) ∧ (¬ ((24 : Int32) ≤ x4) → vp_in (4 : Int32) 5 ∧ ((((((((x3 * (1103515245 : Int32)) + (12345 : Int32))).toUInt32 >>> (((9 : Int32)).toUInt32 &&& Int32.toUInt32 31)).toInt32 - ((((x3 * (1103515245 : Int32)) + (12345 : Int32))).toUInt32 >>> (((9 : Int32)).toUInt32 &&& Int32.toUInt32 31)).toInt32 / (3 : Int32) * (3 : Int32)) = 0) → mmw_takenDrawn_65 Q (fun y0 y1 y2 τ => mmw_takenDrawn_24 Q n y0 y1 y2 τ) x2 ((x3 * (1103515245 : Int32)) + (12345 : Int32)) x4 (4 : Int32) (gg_g σ 4 (4 : Int32).toNatClampNeg) (0 : Int32) σ) ∧ (¬ ((((((x3 * (1103515245 : Int32)) + (12345 : Int32))).toUInt32 >>> (((9 : Int32)).toUInt32 &&& Int32.toUInt32 31)).toInt32 - ((((x3 * (1103515245 : Int32)) + (12345 : Int32))).toUInt32 >>> (((9 : Int32)).toUInt32 &&& Int32.toUInt32 31)).toInt32 / (3 : Int32) * (3 : Int32)) = 0) → mmw_takenDrawn_65 Q (fun y0 y1 y2 τ => mmw_takenDrawn_24 Q n y0 y1 y2 τ) x2 ((x3 * (1103515245 : Int32)) + (12345 : Int32)) x4 (4 : Int32) (gg_g σ 4 (4 : Int32).toNatClampNeg) ((1 : Int32) <<< (x4 &&& 31)) σ))))
def mmw_takenDrawn  (a1 : Int32) (a2 : Int32) (σ : gg_S) (Q : Int32 → gg_S → Prop) : Prop :=
    (mmw_laysAside σ (fun σ1 => vp_in (4 : Int32) 5 ∧ (∀ σ2 : gg_S, σ2 = gg_s σ1 4 (4 : Int32).toNatClampNeg (0 : Int32) → vp_in (4 : Int32) 5 ∧ (∀ σ3 : gg_S, σ3 = gg_s σ2 5 (4 : Int32).toNatClampNeg (24 : Int32) → ∃ k9, mmw_takenDrawn_24 Q k9 a2 a1 (0 : Int32) σ3))))
abbrev mmr_takenDrawn : Room := { frames := 52, cells := 0, slots := 0, locals := 1207 }
set_option maxHeartbeats 4000000 in
set_option maxRecDepth 100000 in
theorem mmk_takenDrawn_65 {p : Program} {l : Launch} {e : Env} {s : State} {m : MethodId} {args : Array Value} {below : List Frame} {meth : Method} {c : Code} {D : va_G} {cl : List vw_C} {E : ClassId × ClassId} {A : Nat → Prop} {ad : Nat → Nat} {Q : Int32 → gg_S → Prop} {K24 : Int32 → Int32 → Int32 → gg_S → Prop}  (C0 : gg_C p s m args meth c RX8 cX8_takenDrawn 5 (some .int)) (hK24 : ∀ (x2 : Int32) (x3 : Int32) (x4 : Int32) (σ : gg_S) (H : Heap) (locs : List Loc) (ls : Array Slot), K24 x2 x3 x4 σ → mm_W D cl E A ad σ s H → va_S A s.heap H locs → lv_has ls 5 [(0, .ref (ad 0)), (2, .int x2), (3, .int x3), (4, .int x4)] → W p l e mmr_takenDrawn s m args below meth c H locs 0 0 (MQ below (va_Qi Q (fun u t => mm_W D cl E A ad u t t.heap) A) args s 0 0 A) (F0 m 24 ls [])) :
    ∀ (x2 : Int32) (x3 : Int32) (x4 : Int32) (s1 : Int32) (s2 : Int32) (s3 : Int32) (σ : gg_S) (H : Heap) (locs : List Loc) (ls : Array Slot), mmw_takenDrawn_65 Q K24 x2 x3 x4 s1 s2 s3 σ → mm_W D cl E A ad σ s H → va_S A s.heap H locs → lv_has ls 5 [(0, .ref (ad 0)), (2, .int x2), (3, .int x3), (4, .int x4)] → W p l e mmr_takenDrawn s m args below meth c H locs 0 0 (MQ below (va_Qi Q (fun u t => mm_W D cl E A ad u t t.heap) A) args s 0 0 A) (F0 m 65 ls [.int s3, .int s2, .int s1, .ref (ad 4)]) := by
  obtain ⟨hx, hb, hml, hown, hts, hr, hlocks⟩ := id C0
  intro x2 x3 x4 s1 s2 s3 σ H locs ls hw hW hS hl
  unfold mmw_takenDrawn_65 at hw
  refine lv_ior hx hb dX8_takenDrawn_65 ?_
  obtain ⟨hin, hw⟩ := hw
  refine mm_ast hx hb hW hS 3 (by decide) hin dX8_takenDrawn_66 (fun H locs hW hS => ?_)
  obtain ⟨σ7, eσ7⟩ : ∃ z, z = gg_s σ 4 s1.toNatClampNeg (s2 ||| s3) := ⟨_, rfl⟩
  rw [← eσ7] at hW
  have hw := hw σ7 eσ7
  refine lv_iinc (v := (x4 + (1 : Int32))) (lv' := [(4, .int (x4 + (1 : Int32))), (0, .ref (ad 0)), (2, .int x2), (3, .int x3)]) hx hb dX8_takenDrawn_67 hl (k := 3) rfl rfl (by decide) rfl (fun ls hl => ?_)
  refine lv_goto (tgt := 24) hx hb dX8_takenDrawn_70 (by decide) ?_
  exact hK24 x2 x3 (x4 + (1 : Int32)) σ7 _ _ _ hw hW hS (lv_sub hl [1, 2, 3, 0] rfl)
set_option maxHeartbeats 4000000 in
set_option maxRecDepth 100000 in
theorem mmk_takenDrawn_24 {p : Program} {l : Launch} {e : Env} {s : State} {m : MethodId} {args : Array Value} {below : List Frame} {meth : Method} {c : Code} {D : va_G} {cl : List vw_C} {E : ClassId × ClassId} {A : Nat → Prop} {ad : Nat → Nat} {Q : Int32 → gg_S → Prop}   (C0 : gg_C p s m args meth c RX8 cX8_takenDrawn 5 (some .int))  :
    ∀ n : Nat, ∀ (x2 : Int32) (x3 : Int32) (x4 : Int32) (σ : gg_S) (H : Heap) (locs : List Loc) (ls : Array Slot), mmw_takenDrawn_24 Q n x2 x3 x4 σ → mm_W D cl E A ad σ s H → va_S A s.heap H locs → lv_has ls 5 [(0, .ref (ad 0)), (2, .int x2), (3, .int x3), (4, .int x4)] → W p l e mmr_takenDrawn s m args below meth c H locs 0 0 (MQ below (va_Qi Q (fun u t => mm_W D cl E A ad u t t.heap) A) args s 0 0 A) (F0 m 24 ls []) := by
  obtain ⟨hx, hb, hml, hown, hts, hr, hlocks⟩ := id C0
  intro n
  induction n with
  | zero =>
    intro x2 x3 x4 σ H locs ls hw hW hS hl
    exact absurd hw (by unfold mmw_takenDrawn_24; exact id)
  | succ n ih =>
    intro x2 x3 x4 σ H locs ls hw hW hS hl
    unfold mmw_takenDrawn_24 at hw
    refine lv_iload hx hb dX8_takenDrawn_24 (lv_at hl 3 rfl) ?_
    refine lv_bipush (v := (24 : Int32)) hx hb dX8_takenDrawn_26 (by decide) ?_
    refine lv_icmp_ge (tgt := 73) hx hb dX8_takenDrawn_28 (by decide) (fun c9 => ?_) (fun c9 => ?_)
    · have hw := hw.1 c9
      refine lv_aload_n hx hb dX8_takenDrawn_73 rfl (lv_at hl 0 rfl) ?_
      refine lv_iload_n hx hb dX8_takenDrawn_74 rfl (lv_at hl 1 rfl) ?_
      refine lv_iconst (v := (4 : Int32)) hx hb dX8_takenDrawn_75 (by decide) ?_
      refine mm_VI ⟨hx, hb, hml, hown, hts⟩ (mmt_gleans l _ _ _ hw) (cwV 2 hts (lw_V q1587 q1589 qs86 q120 q1590) rfl rfl rfl cd_X8_gleans ⟨Nat.le_of_ble_eq_true rfl, Nat.le_of_ble_eq_true rfl⟩) hW (mm_recv hW) hS rfl hl.1 rfl (Nat.le_of_ble_eq_true rfl) dX8_takenDrawn_76 (fun r5 σ4 H locs hw hW hS => ?_)
      refine lv_istore (lv' := [(4, .int r5), (0, .ref (ad 0)), (2, .int x2), (3, .int x3)]) hx hb dX8_takenDrawn_79 hl (by decide) rfl (fun ls hl => ?_)
      refine lv_aload_n hx hb dX8_takenDrawn_81 rfl (lv_at hl 1 rfl) ?_
      refine mm_VV ⟨hx, hb, hml, hown, hts⟩ (mmt_laysBack l _ hw) (cwV 0 hts (lw_V q1627 q1629 qs93 q120 q1630) rfl rfl rfl cd_X8_laysBack ⟨Nat.le_of_ble_eq_true rfl, Nat.le_of_ble_eq_true rfl⟩) hW (mm_recv hW) hS rfl hl.1 rfl (Nat.le_of_ble_eq_true rfl) dX8_takenDrawn_82 (fun σ6 H locs hw hW hS => ?_)
      refine lv_iload hx hb dX8_takenDrawn_85 (lv_at hl 0 rfl) ?_
      exact gg_iret (mm_mv D cl E A ad) C0 hW hS hw dX8_takenDrawn_87
    · have hw := hw.2 c9
      refine lv_iload_n hx hb dX8_takenDrawn_31 rfl (lv_at hl 2 rfl) ?_
      refine lv_ldcw (own := RX8) (v := (1103515245 : Int32)) hx hb hown (hts _ q1714) dX8_takenDrawn_32 ?_
      refine lv_imul hx hb dX8_takenDrawn_35 ?_
      refine lv_sipush (v := (12345 : Int32)) hx hb dX8_takenDrawn_36 (by decide) ?_
      refine lv_iadd hx hb dX8_takenDrawn_39 ?_
      refine lv_istore_n (lv' := [(3, .int ((x3 * (1103515245 : Int32)) + (12345 : Int32))), (0, .ref (ad 0)), (2, .int x2), (4, .int x4)]) hx hb dX8_takenDrawn_40 rfl hl (by decide) rfl (fun ls hl => ?_)
      refine lv_aload_n hx hb dX8_takenDrawn_41 rfl (lv_at hl 1 rfl) ?_
      refine mm_getr hx hb hts hown hW 8 4 (by decide) q1279 dX8_takenDrawn_42 ?_
      refine lv_iconst (v := (4 : Int32)) hx hb dX8_takenDrawn_45 (by decide) ?_
      refine lv_dup2_11 hx hb dX8_takenDrawn_46 rfl rfl ?_
      obtain ⟨hin, hw⟩ := hw
      refine mm_ald hx hb hW 3 (by decide) hin dX8_takenDrawn_47 ?_
      refine lv_iload_n hx hb dX8_takenDrawn_48 rfl (lv_at hl 0 rfl) ?_
      refine lv_bipush (v := (9 : Int32)) hx hb dX8_takenDrawn_49 (by decide) ?_
      refine lv_iushr (v := ((((x3 * (1103515245 : Int32)) + (12345 : Int32))).toUInt32 >>> (((9 : Int32)).toUInt32 &&& Int32.toUInt32 31)).toInt32) hx hb dX8_takenDrawn_51 rfl ?_
      refine lv_iconst (v := (3 : Int32)) hx hb dX8_takenDrawn_52 (by decide) ?_
      refine lv_irem hx hb dX8_takenDrawn_53 (by decide) ?_
      refine lv_if_ne (tgt := 61) hx hb dX8_takenDrawn_54 (by decide) (fun c8 => ?_) (fun c8 => ?_)
      · have hw := hw.2 c8
        refine lv_iconst (v := (1 : Int32)) hx hb dX8_takenDrawn_61 (by decide) ?_
        refine lv_iload hx hb dX8_takenDrawn_62 (lv_at hl 3 rfl) ?_
        refine lv_ishl hx hb dX8_takenDrawn_64 ?_
        exact mmk_takenDrawn_65  C0  (fun y0 y1 y2 τ H9 l9 s9 => ih y0 y1 y2 τ H9 l9 s9) x2 ((x3 * (1103515245 : Int32)) + (12345 : Int32)) x4 (4 : Int32) (gg_g σ 4 (4 : Int32).toNatClampNeg) ((1 : Int32) <<< (x4 &&& 31)) σ _ _ _ hw hW hS (lv_sub hl [1, 2, 0, 3] rfl)
      · have hw := hw.1 c8
        refine lv_iconst (v := (0 : Int32)) hx hb dX8_takenDrawn_57 (by decide) ?_
        refine lv_goto (tgt := 65) hx hb dX8_takenDrawn_58 (by decide) ?_
        exact mmk_takenDrawn_65  C0  (fun y0 y1 y2 τ H9 l9 s9 => ih y0 y1 y2 τ H9 l9 s9) x2 ((x3 * (1103515245 : Int32)) + (12345 : Int32)) x4 (4 : Int32) (gg_g σ 4 (4 : Int32).toNatClampNeg) (0 : Int32) σ _ _ _ hw hW hS (lv_sub hl [1, 2, 0, 3] rfl)
set_option maxHeartbeats 4000000 in
set_option maxRecDepth 100000 in
theorem mmt_takenDrawn (l : Launch) {D : va_G} {cl : List vw_C} {E : ClassId × ClassId} {A : Nat → Prop} {ad : Nat → Nat}  (a1 : Int32) (a2 : Int32) (σ : gg_S) {Q : Int32 → gg_S → Prop} (hw : mmw_takenDrawn a1 a2 σ Q) :
    Met l yX8_takenDrawn (ws_ yX8_takenDrawn cX8_takenDrawn 5 (some .int)) mmr_takenDrawn (va_Pc [.ref (ad 0), .int a1, .int a2] (fun U => mm_W D cl E A ad σ U U.heap)) (va_Qi Q (fun u t => mm_W D cl E A ad u t t.heap) A) 0 0 A := by
  refine gg_entry (W0 := fun s H => mm_W D cl E A ad σ s H) (by decide) (Nat.le_of_ble_eq_true rfl) ?_
  intro p e s m args below meth c C0 hW ls hl
  have C0 : gg_C p s m args meth c RX8 cX8_takenDrawn 5 (some .int) := C0
  obtain ⟨hx, hb, hml, hown, hts, hr, hlocks⟩ := id C0
  have hl : lv_has ls 5 [(0, .ref (ad 0)), (1, .int a1), (2, .int a2)] := hl
  have hS : va_S A s.heap s.heap [] := va_S.rf
  unfold mmw_takenDrawn at hw
  refine lv_aload_n hx hb dX8_takenDrawn_0 rfl (lv_at hl 0 rfl) ?_
  refine mm_VV ⟨hx, hb, hml, hown, hts⟩ (mmt_laysAside l _ hw) (cwV 0 hts (lw_V q1623 q1625 qs92 q120 q1626) rfl rfl rfl cd_X8_laysAside ⟨Nat.le_of_ble_eq_true rfl, Nat.le_of_ble_eq_true rfl⟩) hW (mm_recv hW) hS rfl hl.1 rfl (Nat.le_of_ble_eq_true rfl) dX8_takenDrawn_1 (fun σ1 H locs hw hW hS => ?_)
  refine lv_iload_n hx hb dX8_takenDrawn_4 rfl (lv_at hl 1 rfl) ?_
  refine lv_istore_n (lv' := [(3, .int a1), (0, .ref (ad 0)), (1, .int a1), (2, .int a2)]) hx hb dX8_takenDrawn_5 rfl hl (by decide) rfl (fun ls hl => ?_)
  refine lv_aload_n hx hb dX8_takenDrawn_6 rfl (lv_at hl 1 rfl) ?_
  refine mm_getr hx hb hts hown hW 8 4 (by decide) q1279 dX8_takenDrawn_7 ?_
  refine lv_iconst (v := (4 : Int32)) hx hb dX8_takenDrawn_10 (by decide) ?_
  refine lv_iconst (v := (0 : Int32)) hx hb dX8_takenDrawn_11 (by decide) ?_
  obtain ⟨hin, hw⟩ := hw
  refine mm_ast hx hb hW hS 3 (by decide) hin dX8_takenDrawn_12 (fun H locs hW hS => ?_)
  obtain ⟨σ2, eσ2⟩ : ∃ z, z = gg_s σ1 4 (4 : Int32).toNatClampNeg (0 : Int32) := ⟨_, rfl⟩
  rw [← eσ2] at hW
  have hw := hw σ2 eσ2
  refine lv_aload_n hx hb dX8_takenDrawn_13 rfl (lv_at hl 1 rfl) ?_
  refine mm_getr hx hb hts hown hW 9 5 (by decide) q1280 dX8_takenDrawn_14 ?_
  refine lv_iconst (v := (4 : Int32)) hx hb dX8_takenDrawn_17 (by decide) ?_
  refine lv_bipush (v := (24 : Int32)) hx hb dX8_takenDrawn_18 (by decide) ?_
  obtain ⟨hin, hw⟩ := hw
  refine mm_ast hx hb hW hS 4 (by decide) hin dX8_takenDrawn_20 (fun H locs hW hS => ?_)
  obtain ⟨σ3, eσ3⟩ : ∃ z, z = gg_s σ2 5 (4 : Int32).toNatClampNeg (24 : Int32) := ⟨_, rfl⟩
  rw [← eσ3] at hW
  have hw := hw σ3 eσ3
  refine lv_iconst (v := (0 : Int32)) hx hb dX8_takenDrawn_21 (by decide) ?_
  refine lv_istore (lv' := [(4, .int (0 : Int32)), (3, .int a1), (0, .ref (ad 0)), (1, .int a1), (2, .int a2)]) hx hb dX8_takenDrawn_22 hl (by decide) rfl (fun ls hl => ?_)
  obtain ⟨n9, hw⟩ := hw
  exact mmk_takenDrawn_24  C0   n9 a2 a1 (0 : Int32) σ3 _ _ _ hw hW hS (lv_sub hl [2, 4, 1, 0] rfl)
theorem cd_X8_drawn : yX8_drawn.cls = RX8 ∧ yX8_drawn.cls ≠ "java/lang/invoke/MethodHandle" ∧ yX8_drawn.cls ≠ "java/lang/invoke/VarHandle" ∧ (parseMethodDescriptor yX8_drawn.desc).map (fun d => d.parameters.length) = some 2 := by decide +kernel
/-! GleanersForGapsModel.drawn(II)I -/
def mmw_drawn  (a1 : Int32) (a2 : Int32) (σ : gg_S) (Q : Int32 → gg_S → Prop) : Prop :=
    (mmw_isOne a2 σ (fun r2 σ1 => (((r2 = 0) → Q (-100 : Int32) σ1) ∧ (¬ (r2 = 0) → (mmw_takenDrawn a1 a2 σ1 (fun r4 σ3 => Q r4 σ3))))))
abbrev mmr_drawn : Room := { frames := 53, cells := 0, slots := 0, locals := 1231 }
set_option maxHeartbeats 4000000 in
set_option maxRecDepth 100000 in
theorem mmt_drawn (l : Launch) {D : va_G} {cl : List vw_C} {E : ClassId × ClassId} {A : Nat → Prop} {ad : Nat → Nat}  (a1 : Int32) (a2 : Int32) (σ : gg_S) {Q : Int32 → gg_S → Prop} (hw : mmw_drawn a1 a2 σ Q) :
    Met l yX8_drawn (ws_ yX8_drawn cX8_drawn 3 (some .int)) mmr_drawn (va_Pc [.ref (ad 0), .int a1, .int a2] (fun U => mm_W D cl E A ad σ U U.heap)) (va_Qi Q (fun u t => mm_W D cl E A ad u t t.heap) A) 0 0 A := by
  refine gg_entry (W0 := fun s H => mm_W D cl E A ad σ s H) (by decide) (Nat.le_of_ble_eq_true rfl) ?_
  intro p e s m args below meth c C0 hW ls hl
  have C0 : gg_C p s m args meth c RX8 cX8_drawn 3 (some .int) := C0
  obtain ⟨hx, hb, hml, hown, hts, hr, hlocks⟩ := id C0
  have hl : lv_has ls 3 [(0, .ref (ad 0)), (1, .int a1), (2, .int a2)] := hl
  have hS : va_S A s.heap s.heap [] := va_S.rf
  unfold mmw_drawn at hw
  refine lv_aload_n hx hb dX8_drawn_0 rfl (lv_at hl 0 rfl) ?_
  refine lv_iload_n hx hb dX8_drawn_1 rfl (lv_at hl 2 rfl) ?_
  refine mm_VI ⟨hx, hb, hml, hown, hts⟩ (mmt_isOne l _ _ hw) (cwV 1 hts (lw_V q1438 q1440 qs61 q120 q1441) rfl rfl rfl cd_X8_isOne ⟨Nat.le_of_ble_eq_true rfl, Nat.le_of_ble_eq_true rfl⟩) hW (mm_recv hW) hS rfl hl.1 rfl (Nat.le_of_ble_eq_true rfl) dX8_drawn_2 (fun r2 σ1 H locs hw hW hS => ?_)
  obtain ⟨hz_r2, hw⟩ := hw
  refine lv_if_eq (tgt := 17) hx hb dX8_drawn_5 (by decide) (fun c5 => ?_) (fun c5 => ?_)
  · have hw := hw.1 c5
    refine lv_bipush (v := (-100 : Int32)) hx hb dX8_drawn_17 (by decide) ?_
    exact gg_iret (mm_mv D cl E A ad) C0 hW hS hw dX8_drawn_19
  · have hw := hw.2 c5
    refine lv_aload_n hx hb dX8_drawn_8 rfl (lv_at hl 0 rfl) ?_
    refine lv_iload_n hx hb dX8_drawn_9 rfl (lv_at hl 1 rfl) ?_
    refine lv_iload_n hx hb dX8_drawn_10 rfl (lv_at hl 2 rfl) ?_
    refine mm_VI ⟨hx, hb, hml, hown, hts⟩ (mmt_takenDrawn l _ _ _ hw) (cwV 2 hts (lw_V q1710 q1712 qs101 q120 q1713) rfl rfl rfl cd_X8_takenDrawn ⟨Nat.le_of_ble_eq_true rfl, Nat.le_of_ble_eq_true rfl⟩) hW (mm_recv hW) hS rfl hl.1 rfl (Nat.le_of_ble_eq_true rfl) dX8_drawn_11 (fun r4 σ3 H locs hw hW hS => ?_)
    refine lv_goto (tgt := 19) hx hb dX8_drawn_14 (by decide) ?_
    exact gg_iret (mm_mv D cl E A ad) C0 hW hS hw dX8_drawn_19
theorem cd_X8_chance : yX8_chance.cls = RX8 ∧ yX8_chance.cls ≠ "java/lang/invoke/MethodHandle" ∧ yX8_chance.cls ≠ "java/lang/invoke/VarHandle" ∧ (parseMethodDescriptor yX8_chance.desc).map (fun d => d.parameters.length) = some 5 := by decide +kernel
/-! GleanersForGapsModel.chance(IIIII)J -/
def mmw_chance_81  (Q : Int64 → gg_S → Prop) (K54 : Int32 → Int32 → Int32 → Int32 → Int32 → Int64 → Int32 → gg_S → Prop) (x1 : Int32) (x2 : Int32) (x3 : Int32) (x4 : Int32) (x5 : Int32) (x8 : Int32) (s0 : Int64) (s1 : Int64) (σ : gg_S) : Prop :=
    K54 x1 x2 x3 x4 x5 (s0 + s1) (x8 + (1 : Int32)) σ
def mmw_chance_54  (Q : Int64 → gg_S → Prop)  : Nat → Int32 → Int32 → Int32 → Int32 → Int32 → Int64 → Int32 → gg_S → Prop
  | 0, _, _, _, _, _, _, _, _ => False
  | n + 1, x1, x2, x3, x4, x5, x6, x8, σ =>
    (((x2 ≤ x8) → (mmw_lowest x6 ((x2).toInt64) x5 σ (fun r10 σ9 => Q r10 σ9))) ∧ (¬ (x2 ≤ x8) → (mmw_takenDrawn (x1 + x8) x3 σ (fun r12 σ11 => (((r12 < x4) → mmw_chance_81 Q (fun y0 y1 y2 y3 y4 y5 y6 τ => mmw_chance_54 Q n y0 y1 y2 y3 y4 y5 y6 τ) x1 x2 x3 x4 x5 x8 x6 (0 : Int64) σ11) ∧ (¬ (r12 < x4) → mmw_chance_81 Q (fun y0 y1 y2 y3 y4 y5 y6 τ => mmw_chance_54 Q n y0 y1 y2 y3 y4 y5 y6 τ) x1 x2 x3 x4 x5 x8 x6 (1 : Int64) σ11))))))
def mmw_chance  (a1 : Int32) (a2 : Int32) (a3 : Int32) (a4 : Int32) (a5 : Int32) (σ : gg_S) (Q : Int64 → gg_S → Prop) : Prop :=
    (mmw_in ((a2).toInt64) (1 : Int64) (20 : Int64) σ (fun r2 σ1 => (((r2 = 0) → Q (-4611686018427387904 : Int64) σ1) ∧ (¬ (r2 = 0) → (mmw_isOne a3 σ1 (fun r4 σ3 => (((r4 = 0) → Q (-4611686018427387904 : Int64) σ3) ∧ (¬ (r4 = 0) → (mmw_in ((a4).toInt64) (0 : Int64) (24 : Int64) σ3 (fun r6 σ5 => (((r6 = 0) → Q (-4611686018427387904 : Int64) σ5) ∧ (¬ (r6 = 0) → (mmw_in ((a5).toInt64) (0 : Int64) (1 : Int64) σ5 (fun r8 σ7 => (((r8 = 0) → Q (-4611686018427387904 : Int64) σ7) ∧ (¬ (r8 = 0) → ∃ k9, mmw_chance_54 Q k9 a1 a2 a3 a4 a5 (0 : Int64) (0 : Int32) σ7))))))))))))))))
abbrev mmr_chance : Room := { frames := 53, cells := 0, slots := 0, locals := 1231 }
set_option maxHeartbeats 4000000 in
set_option maxRecDepth 100000 in
theorem mmk_chance_81 {p : Program} {l : Launch} {e : Env} {s : State} {m : MethodId} {args : Array Value} {below : List Frame} {meth : Method} {c : Code} {D : va_G} {cl : List vw_C} {E : ClassId × ClassId} {A : Nat → Prop} {ad : Nat → Nat} {Q : Int64 → gg_S → Prop} {K54 : Int32 → Int32 → Int32 → Int32 → Int32 → Int64 → Int32 → gg_S → Prop}  (C0 : gg_C p s m args meth c RX8 cX8_chance 9 (some .long)) (hK54 : ∀ (x1 : Int32) (x2 : Int32) (x3 : Int32) (x4 : Int32) (x5 : Int32) (x6 : Int64) (x8 : Int32) (σ : gg_S) (H : Heap) (locs : List Loc) (ls : Array Slot), K54 x1 x2 x3 x4 x5 x6 x8 σ → mm_W D cl E A ad σ s H → va_S A s.heap H locs → lv_has ls 9 [(0, .ref (ad 0)), (1, .int x1), (2, .int x2), (3, .int x3), (4, .int x4), (5, .int x5), (6, .long x6), (8, .int x8)] → W p l e mmr_chance s m args below meth c H locs 0 0 (MQ below (va_Ql Q (fun u t => mm_W D cl E A ad u t t.heap) A) args s 0 0 A) (F0 m 54 ls [])) :
    ∀ (x1 : Int32) (x2 : Int32) (x3 : Int32) (x4 : Int32) (x5 : Int32) (x8 : Int32) (s0 : Int64) (s1 : Int64) (σ : gg_S) (H : Heap) (locs : List Loc) (ls : Array Slot), mmw_chance_81 Q K54 x1 x2 x3 x4 x5 x8 s0 s1 σ → mm_W D cl E A ad σ s H → va_S A s.heap H locs → lv_has ls 9 [(0, .ref (ad 0)), (1, .int x1), (2, .int x2), (3, .int x3), (4, .int x4), (5, .int x5), (8, .int x8)] → W p l e mmr_chance s m args below meth c H locs 0 0 (MQ below (va_Ql Q (fun u t => mm_W D cl E A ad u t t.heap) A) args s 0 0 A) (F0 m 81 ls [.long s1, .long s0]) := by
  obtain ⟨hx, hb, hml, hown, hts, hr, hlocks⟩ := id C0
  intro x1 x2 x3 x4 x5 x8 s0 s1 σ H locs ls hw hW hS hl
  unfold mmw_chance_81 at hw
  refine lv_ladd hx hb dX8_chance_81 ?_
  refine lv_lstore (lv' := [(6, .long (s0 + s1)), (0, .ref (ad 0)), (1, .int x1), (2, .int x2), (3, .int x3), (4, .int x4), (5, .int x5), (8, .int x8)]) hx hb dX8_chance_82 hl (by decide) rfl (fun ls hl => ?_)
  refine lv_iinc (v := (x8 + (1 : Int32))) (lv' := [(8, .int (x8 + (1 : Int32))), (6, .long (s0 + s1)), (0, .ref (ad 0)), (1, .int x1), (2, .int x2), (3, .int x3), (4, .int x4), (5, .int x5)]) hx hb dX8_chance_84 hl (k := 7) rfl rfl (by decide) rfl (fun ls hl => ?_)
  refine lv_goto (tgt := 54) hx hb dX8_chance_87 (by decide) ?_
  exact hK54 x1 x2 x3 x4 x5 (s0 + s1) (x8 + (1 : Int32)) σ _ _ _ hw hW hS (lv_sub hl [2, 3, 4, 5, 6, 7, 1, 0] rfl)
set_option maxHeartbeats 4000000 in
set_option maxRecDepth 100000 in
theorem mmk_chance_54 {p : Program} {l : Launch} {e : Env} {s : State} {m : MethodId} {args : Array Value} {below : List Frame} {meth : Method} {c : Code} {D : va_G} {cl : List vw_C} {E : ClassId × ClassId} {A : Nat → Prop} {ad : Nat → Nat} {Q : Int64 → gg_S → Prop}   (C0 : gg_C p s m args meth c RX8 cX8_chance 9 (some .long))  :
    ∀ n : Nat, ∀ (x1 : Int32) (x2 : Int32) (x3 : Int32) (x4 : Int32) (x5 : Int32) (x6 : Int64) (x8 : Int32) (σ : gg_S) (H : Heap) (locs : List Loc) (ls : Array Slot), mmw_chance_54 Q n x1 x2 x3 x4 x5 x6 x8 σ → mm_W D cl E A ad σ s H → va_S A s.heap H locs → lv_has ls 9 [(0, .ref (ad 0)), (1, .int x1), (2, .int x2), (3, .int x3), (4, .int x4), (5, .int x5), (6, .long x6), (8, .int x8)] → W p l e mmr_chance s m args below meth c H locs 0 0 (MQ below (va_Ql Q (fun u t => mm_W D cl E A ad u t t.heap) A) args s 0 0 A) (F0 m 54 ls []) := by
  obtain ⟨hx, hb, hml, hown, hts, hr, hlocks⟩ := id C0
  intro n
  induction n with
  | zero =>
    intro x1 x2 x3 x4 x5 x6 x8 σ H locs ls hw hW hS hl
    exact absurd hw (by unfold mmw_chance_54; exact id)
  | succ n ih =>
    intro x1 x2 x3 x4 x5 x6 x8 σ H locs ls hw hW hS hl
    unfold mmw_chance_54 at hw
    refine lv_iload hx hb dX8_chance_54 (lv_at hl 7 rfl) ?_
    refine lv_iload_n hx hb dX8_chance_56 rfl (lv_at hl 2 rfl) ?_
    refine lv_icmp_ge (tgt := 90) hx hb dX8_chance_57 (by decide) (fun c14 => ?_) (fun c14 => ?_)
    · have hw := hw.1 c14
      refine lv_lload hx hb dX8_chance_90 (lv_at hl 6 rfl) ?_
      refine lv_iload_n hx hb dX8_chance_92 rfl (lv_at hl 2 rfl) ?_
      refine lv_i2l (v := (x2).toInt64) hx hb dX8_chance_93 rfl ?_
      refine lv_iload hx hb dX8_chance_94 (lv_at hl 5 rfl) ?_
      refine mm_SJ ⟨hx, hb, hml, hown, hts⟩ (mmt_lowest l _ _ _ _ hw) (va_cwS 3 hts (lw_S q1673 q1674 q120 q1675) rfl rfl rfl cd_X8_lowest.2 ⟨Nat.le_of_ble_eq_true rfl, Nat.le_of_ble_eq_true rfl⟩) hW hS rfl hl.1 rfl (Nat.le_of_ble_eq_true rfl) dX8_chance_96 (fun r10 σ9 H locs hw hW hS => ?_)
      exact gg_lret (mm_mv D cl E A ad) C0 hW hS hw dX8_chance_99
    · have hw := hw.2 c14
      refine lv_lload hx hb dX8_chance_60 (lv_at hl 6 rfl) ?_
      refine lv_aload_n hx hb dX8_chance_62 rfl (lv_at hl 0 rfl) ?_
      refine lv_iload_n hx hb dX8_chance_63 rfl (lv_at hl 1 rfl) ?_
      refine lv_iload hx hb dX8_chance_64 (lv_at hl 7 rfl) ?_
      refine lv_iadd hx hb dX8_chance_66 ?_
      refine lv_iload_n hx hb dX8_chance_67 rfl (lv_at hl 3 rfl) ?_
      refine mm_VI ⟨hx, hb, hml, hown, hts⟩ (mmt_takenDrawn l _ _ _ hw) (cwV 2 hts (lw_V q1710 q1712 qs101 q120 q1713) rfl rfl rfl cd_X8_takenDrawn ⟨Nat.le_of_ble_eq_true rfl, Nat.le_of_ble_eq_true rfl⟩) hW (mm_recv hW) hS rfl hl.1 rfl (Nat.le_of_ble_eq_true rfl) dX8_chance_68 (fun r12 σ11 H locs hw hW hS => ?_)
      refine lv_iload hx hb dX8_chance_71 (lv_at hl 4 rfl) ?_
      refine lv_icmp_lt (tgt := 80) hx hb dX8_chance_73 (by decide) (fun c13 => ?_) (fun c13 => ?_)
      · have hw := hw.1 c13
        refine lv_lconst (v := (0 : Int64)) hx hb dX8_chance_80 (by decide) ?_
        exact mmk_chance_81  C0  (fun y0 y1 y2 y3 y4 y5 y6 τ H9 l9 s9 => ih y0 y1 y2 y3 y4 y5 y6 τ H9 l9 s9) x1 x2 x3 x4 x5 x8 x6 (0 : Int64) σ11 _ _ _ hw hW hS (lv_sub hl [0, 1, 2, 3, 4, 5, 7] rfl)
      · have hw := hw.2 c13
        refine lv_lconst (v := (1 : Int64)) hx hb dX8_chance_76 (by decide) ?_
        refine lv_goto (tgt := 81) hx hb dX8_chance_77 (by decide) ?_
        exact mmk_chance_81  C0  (fun y0 y1 y2 y3 y4 y5 y6 τ H9 l9 s9 => ih y0 y1 y2 y3 y4 y5 y6 τ H9 l9 s9) x1 x2 x3 x4 x5 x8 x6 (1 : Int64) σ11 _ _ _ hw hW hS (lv_sub hl [0, 1, 2, 3, 4, 5, 7] rfl)
set_option maxHeartbeats 4000000 in
set_option maxRecDepth 100000 in
theorem mmt_chance (l : Launch) {D : va_G} {cl : List vw_C} {E : ClassId × ClassId} {A : Nat → Prop} {ad : Nat → Nat}  (a1 : Int32) (a2 : Int32) (a3 : Int32) (a4 : Int32) (a5 : Int32) (σ : gg_S) {Q : Int64 → gg_S → Prop} (hw : mmw_chance a1 a2 a3 a4 a5 σ Q) :
    Met l yX8_chance (ws_ yX8_chance cX8_chance 9 (some .long)) mmr_chance (va_Pc [.ref (ad 0), .int a1, .int a2, .int a3, .int a4, .int a5] (fun U => mm_W D cl E A ad σ U U.heap)) (va_Ql Q (fun u t => mm_W D cl E A ad u t t.heap) A) 0 0 A := by
  refine gg_entry (W0 := fun s H => mm_W D cl E A ad σ s H) (by decide) (Nat.le_of_ble_eq_true rfl) ?_
  intro p e s m args below meth c C0 hW ls hl
  have C0 : gg_C p s m args meth c RX8 cX8_chance 9 (some .long) := C0
  obtain ⟨hx, hb, hml, hown, hts, hr, hlocks⟩ := id C0
  have hl : lv_has ls 9 [(0, .ref (ad 0)), (1, .int a1), (2, .int a2), (3, .int a3), (4, .int a4), (5, .int a5)] := hl
  have hS : va_S A s.heap s.heap [] := va_S.rf
  unfold mmw_chance at hw
  refine lv_iload_n hx hb dX8_chance_0 rfl (lv_at hl 2 rfl) ?_
  refine lv_i2l (v := (a2).toInt64) hx hb dX8_chance_1 rfl ?_
  refine lv_lconst (v := (1 : Int64)) hx hb dX8_chance_2 (by decide) ?_
  refine lv_ldc2 (own := RX8) (v := (20 : Int64)) hx hb hown (hts _ q1635) dX8_chance_3 ?_
  refine mm_SI ⟨hx, hb, hml, hown, hts⟩ (mmt_in l _ _ _ _ hw) (va_cwS 3 hts (lw_S q1422 q1423 q120 q1424) rfl rfl rfl cd_X8_in.2 ⟨Nat.le_of_ble_eq_true rfl, Nat.le_of_ble_eq_true rfl⟩) hW hS rfl hl.1 rfl (Nat.le_of_ble_eq_true rfl) dX8_chance_6 (fun r2 σ1 H locs hw hW hS => ?_)
  obtain ⟨hz_r2, hw⟩ := hw
  refine lv_if_eq (tgt := 44) hx hb dX8_chance_9 (by decide) (fun c18 => ?_) (fun c18 => ?_)
  · have hw := hw.1 c18
    refine lv_ldc2 (own := RX8) (v := (-4611686018427387904 : Int64)) hx hb hown (hts _ q1676) dX8_chance_44 ?_
    exact gg_lret (mm_mv D cl E A ad) C0 hW hS hw dX8_chance_47
  · have hw := hw.2 c18
    refine lv_aload_n hx hb dX8_chance_12 rfl (lv_at hl 0 rfl) ?_
    refine lv_iload_n hx hb dX8_chance_13 rfl (lv_at hl 3 rfl) ?_
    refine mm_VI ⟨hx, hb, hml, hown, hts⟩ (mmt_isOne l _ _ hw) (cwV 1 hts (lw_V q1438 q1440 qs61 q120 q1441) rfl rfl rfl cd_X8_isOne ⟨Nat.le_of_ble_eq_true rfl, Nat.le_of_ble_eq_true rfl⟩) hW (mm_recv hW) hS rfl hl.1 rfl (Nat.le_of_ble_eq_true rfl) dX8_chance_14 (fun r4 σ3 H locs hw hW hS => ?_)
    obtain ⟨hz_r4, hw⟩ := hw
    refine lv_if_eq (tgt := 44) hx hb dX8_chance_17 (by decide) (fun c17 => ?_) (fun c17 => ?_)
    · have hw := hw.1 c17
      refine lv_ldc2 (own := RX8) (v := (-4611686018427387904 : Int64)) hx hb hown (hts _ q1676) dX8_chance_44 ?_
      exact gg_lret (mm_mv D cl E A ad) C0 hW hS hw dX8_chance_47
    · have hw := hw.2 c17
      refine lv_iload hx hb dX8_chance_20 (lv_at hl 4 rfl) ?_
      refine lv_i2l (v := (a4).toInt64) hx hb dX8_chance_22 rfl ?_
      refine lv_lconst (v := (0 : Int64)) hx hb dX8_chance_23 (by decide) ?_
      refine lv_ldc2 (own := RX8) (v := (24 : Int64)) hx hb hown (hts _ q1425) dX8_chance_24 ?_
      refine mm_SI ⟨hx, hb, hml, hown, hts⟩ (mmt_in l _ _ _ _ hw) (va_cwS 3 hts (lw_S q1422 q1423 q120 q1424) rfl rfl rfl cd_X8_in.2 ⟨Nat.le_of_ble_eq_true rfl, Nat.le_of_ble_eq_true rfl⟩) hW hS rfl hl.1 rfl (Nat.le_of_ble_eq_true rfl) dX8_chance_27 (fun r6 σ5 H locs hw hW hS => ?_)
      obtain ⟨hz_r6, hw⟩ := hw
      refine lv_if_eq (tgt := 44) hx hb dX8_chance_30 (by decide) (fun c16 => ?_) (fun c16 => ?_)
      · have hw := hw.1 c16
        refine lv_ldc2 (own := RX8) (v := (-4611686018427387904 : Int64)) hx hb hown (hts _ q1676) dX8_chance_44 ?_
        exact gg_lret (mm_mv D cl E A ad) C0 hW hS hw dX8_chance_47
      · have hw := hw.2 c16
        refine lv_iload hx hb dX8_chance_33 (lv_at hl 5 rfl) ?_
        refine lv_i2l (v := (a5).toInt64) hx hb dX8_chance_35 rfl ?_
        refine lv_lconst (v := (0 : Int64)) hx hb dX8_chance_36 (by decide) ?_
        refine lv_lconst (v := (1 : Int64)) hx hb dX8_chance_37 (by decide) ?_
        refine mm_SI ⟨hx, hb, hml, hown, hts⟩ (mmt_in l _ _ _ _ hw) (va_cwS 3 hts (lw_S q1422 q1423 q120 q1424) rfl rfl rfl cd_X8_in.2 ⟨Nat.le_of_ble_eq_true rfl, Nat.le_of_ble_eq_true rfl⟩) hW hS rfl hl.1 rfl (Nat.le_of_ble_eq_true rfl) dX8_chance_38 (fun r8 σ7 H locs hw hW hS => ?_)
        obtain ⟨hz_r8, hw⟩ := hw
        refine lv_if_ne (tgt := 48) hx hb dX8_chance_41 (by decide) (fun c15 => ?_) (fun c15 => ?_)
        · have hw := hw.2 c15
          refine lv_lconst (v := (0 : Int64)) hx hb dX8_chance_48 (by decide) ?_
          refine lv_lstore (lv' := [(6, .long (0 : Int64)), (0, .ref (ad 0)), (1, .int a1), (2, .int a2), (3, .int a3), (4, .int a4), (5, .int a5)]) hx hb dX8_chance_49 hl (by decide) rfl (fun ls hl => ?_)
          refine lv_iconst (v := (0 : Int32)) hx hb dX8_chance_51 (by decide) ?_
          refine lv_istore (lv' := [(8, .int (0 : Int32)), (6, .long (0 : Int64)), (0, .ref (ad 0)), (1, .int a1), (2, .int a2), (3, .int a3), (4, .int a4), (5, .int a5)]) hx hb dX8_chance_52 hl (by decide) rfl (fun ls hl => ?_)
          obtain ⟨n9, hw⟩ := hw
          exact mmk_chance_54  C0   n9 a1 a2 a3 a4 a5 (0 : Int64) (0 : Int32) σ7 _ _ _ hw hW hS (lv_sub hl [2, 3, 4, 5, 6, 7, 1, 0] rfl)
        · have hw := hw.1 c15
          refine lv_ldc2 (own := RX8) (v := (-4611686018427387904 : Int64)) hx hb hown (hts _ q1676) dX8_chance_44 ?_
          exact gg_lret (mm_mv D cl E A ad) C0 hW hS hw dX8_chance_47
theorem cd_X8_image : yX8_image.cls = RX8 ∧ yX8_image.cls ≠ "java/lang/invoke/MethodHandle" ∧ yX8_image.cls ≠ "java/lang/invoke/VarHandle" ∧ (parseMethodDescriptor yX8_image.desc).map (fun d => d.parameters.length) = some 0 := by decide +kernel
/-! GleanersForGapsModel.image()I -/
def mmw_image_39  (Q : Int32 → gg_S → Prop)  : Nat → Int32 → gg_S → Prop
  | 0, _, _ => False
  | n + 1, x1, σ =>
    ((((10 : Int32) ≤ x1) → (∀ σ1 : gg_S, σ1 = gg_s σ 0 40 (gg_g σ 0 12) → (∀ σ2 : gg_S, σ2 = gg_s σ1 0 41 (gg_g σ1 0 7) → (∀ σ3 : gg_S, σ3 = gg_s σ2 0 42 (gg_g σ2 0 4) → Q (gg_g σ3 0 12) σ3)))) ∧ (¬ ((10 : Int32) ≤ x1) → vp_in x1 10 ∧ vp_in x1 10 ∧ (∀ σ4 : gg_S, σ4 = gg_s σ 17 x1.toNatClampNeg (gg_g σ 7 x1.toNatClampNeg) → mmw_image_39 Q n (x1 + (1 : Int32)) σ4)))
def mmw_image_2  (Q : Int32 → gg_S → Prop)  : Nat → Int32 → gg_S → Prop
  | 0, _, _ => False
  | n + 1, x1, σ =>
    ((((4 : Int32) ≤ x1) → ∃ k9, mmw_image_39 Q k9 (0 : Int32) σ) ∧ (¬ ((4 : Int32) ≤ x1) → vp_in x1 5 ∧ vp_in x1 4 ∧ (∀ σ6 : gg_S, σ6 = gg_s σ 15 x1.toNatClampNeg (gg_g σ 4 x1.toNatClampNeg) → vp_in x1 5 ∧ vp_in x1 4 ∧ (∀ σ7 : gg_S, σ7 = gg_s σ6 16 x1.toNatClampNeg (gg_g σ6 5 x1.toNatClampNeg) → mmw_image_2 Q n (x1 + (1 : Int32)) σ7))))
def mmw_image   (σ : gg_S) (Q : Int32 → gg_S → Prop) : Prop :=
    ∃ k9, mmw_image_2 Q k9 (0 : Int32) σ
abbrev mmr_image : Room := { frames := 0, cells := 0, slots := 0, locals := 0 }
set_option maxHeartbeats 4000000 in
set_option maxRecDepth 100000 in
theorem mmk_image_39 {p : Program} {l : Launch} {e : Env} {s : State} {m : MethodId} {args : Array Value} {below : List Frame} {meth : Method} {c : Code} {D : va_G} {cl : List vw_C} {E : ClassId × ClassId} {A : Nat → Prop} {ad : Nat → Nat} {Q : Int32 → gg_S → Prop}   (C0 : gg_C p s m args meth c RX8 cX8_image 2 (some .int))  :
    ∀ n : Nat, ∀ (x1 : Int32) (σ : gg_S) (H : Heap) (locs : List Loc) (ls : Array Slot), mmw_image_39 Q n x1 σ → mm_W D cl E A ad σ s H → va_S A s.heap H locs → lv_has ls 2 [(0, .ref (ad 0)), (1, .int x1)] → W p l e mmr_image s m args below meth c H locs 0 0 (MQ below (va_Qi Q (fun u t => mm_W D cl E A ad u t t.heap) A) args s 0 0 A) (F0 m 39 ls []) := by
  obtain ⟨hx, hb, hml, hown, hts, hr, hlocks⟩ := id C0
  intro n
  induction n with
  | zero =>
    intro x1 σ H locs ls hw hW hS hl
    exact absurd hw (by unfold mmw_image_39; exact id)
  | succ n ih =>
    intro x1 σ H locs ls hw hW hS hl
    unfold mmw_image_39 at hw
    refine lv_iload_n hx hb dX8_image_39 rfl (lv_at hl 1 rfl) ?_
    refine lv_bipush (v := (10 : Int32)) hx hb dX8_image_40 (by decide) ?_
    refine lv_icmp_ge (tgt := 63) hx hb dX8_image_42 (by decide) (fun c5 => ?_) (fun c5 => ?_)
    · have hw := hw.1 c5
      refine lv_aload_n hx hb dX8_image_63 rfl (lv_at hl 0 rfl) ?_
      refine lv_aload_n hx hb dX8_image_64 rfl (lv_at hl 0 rfl) ?_
      refine mm_geti hx hb hts hown hW 12 (by decide) q1283 dX8_image_65 ?_
      refine mm_puti hx hb hts hown hW hS 40 (by decide) q1311 rfl rfl rfl dX8_image_68 (fun H locs hW hS => ?_)
      obtain ⟨σ1, eσ1⟩ : ∃ z, z = gg_s σ 0 40 (gg_g σ 0 12) := ⟨_, rfl⟩
      rw [← eσ1] at hW
      have hw := hw σ1 eσ1
      refine lv_aload_n hx hb dX8_image_71 rfl (lv_at hl 0 rfl) ?_
      refine lv_aload_n hx hb dX8_image_72 rfl (lv_at hl 0 rfl) ?_
      refine mm_geti hx hb hts hown hW 7 (by decide) q1278 dX8_image_73 ?_
      refine mm_puti hx hb hts hown hW hS 41 (by decide) q1312 rfl rfl rfl dX8_image_76 (fun H locs hW hS => ?_)
      obtain ⟨σ2, eσ2⟩ : ∃ z, z = gg_s σ1 0 41 (gg_g σ1 0 7) := ⟨_, rfl⟩
      rw [← eσ2] at hW
      have hw := hw σ2 eσ2
      refine lv_aload_n hx hb dX8_image_79 rfl (lv_at hl 0 rfl) ?_
      refine lv_aload_n hx hb dX8_image_80 rfl (lv_at hl 0 rfl) ?_
      refine mm_geti hx hb hts hown hW 4 (by decide) q1275 dX8_image_81 ?_
      refine mm_puti hx hb hts hown hW hS 42 (by decide) q1313 rfl rfl rfl dX8_image_84 (fun H locs hW hS => ?_)
      obtain ⟨σ3, eσ3⟩ : ∃ z, z = gg_s σ2 0 42 (gg_g σ2 0 4) := ⟨_, rfl⟩
      rw [← eσ3] at hW
      have hw := hw σ3 eσ3
      refine lv_aload_n hx hb dX8_image_87 rfl (lv_at hl 0 rfl) ?_
      refine mm_geti hx hb hts hown hW 12 (by decide) q1283 dX8_image_88 ?_
      exact gg_iret (mm_mv D cl E A ad) C0 hW hS hw dX8_image_91
    · have hw := hw.2 c5
      refine lv_aload_n hx hb dX8_image_45 rfl (lv_at hl 0 rfl) ?_
      refine mm_getr hx hb hts hown hW 39 17 (by decide) q1310 dX8_image_46 ?_
      refine lv_iload_n hx hb dX8_image_49 rfl (lv_at hl 1 rfl) ?_
      refine lv_aload_n hx hb dX8_image_50 rfl (lv_at hl 0 rfl) ?_
      refine mm_getr hx hb hts hown hW 11 7 (by decide) q1282 dX8_image_51 ?_
      refine lv_iload_n hx hb dX8_image_54 rfl (lv_at hl 1 rfl) ?_
      obtain ⟨hin, hw⟩ := hw
      refine mm_ald hx hb hW 6 (by decide) hin dX8_image_55 ?_
      obtain ⟨hin, hw⟩ := hw
      refine mm_ast hx hb hW hS 16 (by decide) hin dX8_image_56 (fun H locs hW hS => ?_)
      obtain ⟨σ4, eσ4⟩ : ∃ z, z = gg_s σ 17 x1.toNatClampNeg (gg_g σ 7 x1.toNatClampNeg) := ⟨_, rfl⟩
      rw [← eσ4] at hW
      have hw := hw σ4 eσ4
      refine lv_iinc (v := (x1 + (1 : Int32))) (lv' := [(1, .int (x1 + (1 : Int32))), (0, .ref (ad 0))]) hx hb dX8_image_57 hl (k := 1) rfl rfl (by decide) rfl (fun ls hl => ?_)
      refine lv_goto (tgt := 39) hx hb dX8_image_60 (by decide) ?_
      exact ih (x1 + (1 : Int32)) σ4 _ _ _ hw hW hS (lv_sub hl [1, 0] rfl)
set_option maxHeartbeats 4000000 in
set_option maxRecDepth 100000 in
theorem mmk_image_2 {p : Program} {l : Launch} {e : Env} {s : State} {m : MethodId} {args : Array Value} {below : List Frame} {meth : Method} {c : Code} {D : va_G} {cl : List vw_C} {E : ClassId × ClassId} {A : Nat → Prop} {ad : Nat → Nat} {Q : Int32 → gg_S → Prop}   (C0 : gg_C p s m args meth c RX8 cX8_image 2 (some .int))  :
    ∀ n : Nat, ∀ (x1 : Int32) (σ : gg_S) (H : Heap) (locs : List Loc) (ls : Array Slot), mmw_image_2 Q n x1 σ → mm_W D cl E A ad σ s H → va_S A s.heap H locs → lv_has ls 2 [(0, .ref (ad 0)), (1, .int x1)] → W p l e mmr_image s m args below meth c H locs 0 0 (MQ below (va_Qi Q (fun u t => mm_W D cl E A ad u t t.heap) A) args s 0 0 A) (F0 m 2 ls []) := by
  obtain ⟨hx, hb, hml, hown, hts, hr, hlocks⟩ := id C0
  intro n
  induction n with
  | zero =>
    intro x1 σ H locs ls hw hW hS hl
    exact absurd hw (by unfold mmw_image_2; exact id)
  | succ n ih =>
    intro x1 σ H locs ls hw hW hS hl
    unfold mmw_image_2 at hw
    refine lv_iload_n hx hb dX8_image_2 rfl (lv_at hl 1 rfl) ?_
    refine lv_iconst (v := (4 : Int32)) hx hb dX8_image_3 (by decide) ?_
    refine lv_icmp_ge (tgt := 37) hx hb dX8_image_4 (by decide) (fun c8 => ?_) (fun c8 => ?_)
    · have hw := hw.1 c8
      refine lv_iconst (v := (0 : Int32)) hx hb dX8_image_37 (by decide) ?_
      refine lv_istore_n (lv' := [(1, .int (0 : Int32)), (0, .ref (ad 0))]) hx hb dX8_image_38 rfl hl (by decide) rfl (fun ls hl => ?_)
      obtain ⟨n9, hw⟩ := hw
      exact mmk_image_39  C0   n9 (0 : Int32) σ _ _ _ hw hW hS (lv_sub hl [1, 0] rfl)
    · have hw := hw.2 c8
      refine lv_aload_n hx hb dX8_image_7 rfl (lv_at hl 0 rfl) ?_
      refine mm_getr hx hb hts hown hW 37 15 (by decide) q1308 dX8_image_8 ?_
      refine lv_iload_n hx hb dX8_image_11 rfl (lv_at hl 1 rfl) ?_
      refine lv_aload_n hx hb dX8_image_12 rfl (lv_at hl 0 rfl) ?_
      refine mm_getr hx hb hts hown hW 8 4 (by decide) q1279 dX8_image_13 ?_
      refine lv_iload_n hx hb dX8_image_16 rfl (lv_at hl 1 rfl) ?_
      obtain ⟨hin, hw⟩ := hw
      refine mm_ald hx hb hW 3 (by decide) hin dX8_image_17 ?_
      obtain ⟨hin, hw⟩ := hw
      refine mm_ast hx hb hW hS 14 (by decide) hin dX8_image_18 (fun H locs hW hS => ?_)
      obtain ⟨σ6, eσ6⟩ : ∃ z, z = gg_s σ 15 x1.toNatClampNeg (gg_g σ 4 x1.toNatClampNeg) := ⟨_, rfl⟩
      rw [← eσ6] at hW
      have hw := hw σ6 eσ6
      refine lv_aload_n hx hb dX8_image_19 rfl (lv_at hl 0 rfl) ?_
      refine mm_getr hx hb hts hown hW 38 16 (by decide) q1309 dX8_image_20 ?_
      refine lv_iload_n hx hb dX8_image_23 rfl (lv_at hl 1 rfl) ?_
      refine lv_aload_n hx hb dX8_image_24 rfl (lv_at hl 0 rfl) ?_
      refine mm_getr hx hb hts hown hW 9 5 (by decide) q1280 dX8_image_25 ?_
      refine lv_iload_n hx hb dX8_image_28 rfl (lv_at hl 1 rfl) ?_
      obtain ⟨hin, hw⟩ := hw
      refine mm_ald hx hb hW 4 (by decide) hin dX8_image_29 ?_
      obtain ⟨hin, hw⟩ := hw
      refine mm_ast hx hb hW hS 15 (by decide) hin dX8_image_30 (fun H locs hW hS => ?_)
      obtain ⟨σ7, eσ7⟩ : ∃ z, z = gg_s σ6 16 x1.toNatClampNeg (gg_g σ6 5 x1.toNatClampNeg) := ⟨_, rfl⟩
      rw [← eσ7] at hW
      have hw := hw σ7 eσ7
      refine lv_iinc (v := (x1 + (1 : Int32))) (lv' := [(1, .int (x1 + (1 : Int32))), (0, .ref (ad 0))]) hx hb dX8_image_31 hl (k := 1) rfl rfl (by decide) rfl (fun ls hl => ?_)
      refine lv_goto (tgt := 2) hx hb dX8_image_34 (by decide) ?_
      exact ih (x1 + (1 : Int32)) σ7 _ _ _ hw hW hS (lv_sub hl [1, 0] rfl)
set_option maxHeartbeats 4000000 in
set_option maxRecDepth 100000 in
theorem mmt_image (l : Launch) {D : va_G} {cl : List vw_C} {E : ClassId × ClassId} {A : Nat → Prop} {ad : Nat → Nat}   (σ : gg_S) {Q : Int32 → gg_S → Prop} (hw : mmw_image σ Q) :
    Met l yX8_image (ws_ yX8_image cX8_image 2 (some .int)) mmr_image (va_Pc [.ref (ad 0)] (fun U => mm_W D cl E A ad σ U U.heap)) (va_Qi Q (fun u t => mm_W D cl E A ad u t t.heap) A) 0 0 A := by
  refine gg_entry (W0 := fun s H => mm_W D cl E A ad σ s H) (by decide) (Nat.le_of_ble_eq_true rfl) ?_
  intro p e s m args below meth c C0 hW ls hl
  have C0 : gg_C p s m args meth c RX8 cX8_image 2 (some .int) := C0
  obtain ⟨hx, hb, hml, hown, hts, hr, hlocks⟩ := id C0
  have hl : lv_has ls 2 [(0, .ref (ad 0))] := hl
  have hS : va_S A s.heap s.heap [] := va_S.rf
  unfold mmw_image at hw
  refine lv_iconst (v := (0 : Int32)) hx hb dX8_image_0 (by decide) ?_
  refine lv_istore_n (lv' := [(1, .int (0 : Int32)), (0, .ref (ad 0))]) hx hb dX8_image_1 rfl hl (by decide) rfl (fun ls hl => ?_)
  obtain ⟨n9, hw⟩ := hw
  exact mmk_image_2  C0   n9 (0 : Int32) σ _ _ _ hw hW hS (lv_sub hl [1, 0] rfl)
theorem cd_X8_back : yX8_back.cls = RX8 ∧ yX8_back.cls ≠ "java/lang/invoke/MethodHandle" ∧ yX8_back.cls ≠ "java/lang/invoke/VarHandle" ∧ (parseMethodDescriptor yX8_back.desc).map (fun d => d.parameters.length) = some 0 := by decide +kernel
/-! GleanersForGapsModel.back()I -/
def mmw_back_50  (Q : Int32 → gg_S → Prop)  : Nat → Int32 → gg_S → Prop
  | 0, _, _ => False
  | n + 1, x1, σ =>
    ((((10 : Int32) ≤ x1) → (∀ σ1 : gg_S, σ1 = gg_s σ 0 12 (gg_g σ 0 40) → (∀ σ2 : gg_S, σ2 = gg_s σ1 0 7 (gg_g σ1 0 41) → (∀ σ3 : gg_S, σ3 = gg_s σ2 0 4 (gg_g σ2 0 42) → Q (gg_g σ3 0 12) σ3)))) ∧ (¬ ((10 : Int32) ≤ x1) → vp_in x1 10 ∧ vp_in x1 10 ∧ (∀ σ4 : gg_S, σ4 = gg_s σ 7 x1.toNatClampNeg (gg_g σ 17 x1.toNatClampNeg) → mmw_back_50 Q n (x1 + (1 : Int32)) σ4)))
def mmw_back_13  (Q : Int32 → gg_S → Prop)  : Nat → Int32 → gg_S → Prop
  | 0, _, _ => False
  | n + 1, x1, σ =>
    ((((4 : Int32) ≤ x1) → ∃ k9, mmw_back_50 Q k9 (0 : Int32) σ) ∧ (¬ ((4 : Int32) ≤ x1) → vp_in x1 4 ∧ vp_in x1 5 ∧ (∀ σ6 : gg_S, σ6 = gg_s σ 4 x1.toNatClampNeg (gg_g σ 15 x1.toNatClampNeg) → vp_in x1 4 ∧ vp_in x1 5 ∧ (∀ σ7 : gg_S, σ7 = gg_s σ6 5 x1.toNatClampNeg (gg_g σ6 16 x1.toNatClampNeg) → mmw_back_13 Q n (x1 + (1 : Int32)) σ7))))
def mmw_back   (σ : gg_S) (Q : Int32 → gg_S → Prop) : Prop :=
    ((((gg_g σ 0 40) = (-1 : Int32)) → Q (-3 : Int32) σ) ∧ (¬ ((gg_g σ 0 40) = (-1 : Int32)) → ∃ k9, mmw_back_13 Q k9 (0 : Int32) σ))
abbrev mmr_back : Room := { frames := 0, cells := 0, slots := 0, locals := 0 }
set_option maxHeartbeats 4000000 in
set_option maxRecDepth 100000 in
theorem mmk_back_50 {p : Program} {l : Launch} {e : Env} {s : State} {m : MethodId} {args : Array Value} {below : List Frame} {meth : Method} {c : Code} {D : va_G} {cl : List vw_C} {E : ClassId × ClassId} {A : Nat → Prop} {ad : Nat → Nat} {Q : Int32 → gg_S → Prop}   (C0 : gg_C p s m args meth c RX8 cX8_back 2 (some .int))  :
    ∀ n : Nat, ∀ (x1 : Int32) (σ : gg_S) (H : Heap) (locs : List Loc) (ls : Array Slot), mmw_back_50 Q n x1 σ → mm_W D cl E A ad σ s H → va_S A s.heap H locs → lv_has ls 2 [(0, .ref (ad 0)), (1, .int x1)] → W p l e mmr_back s m args below meth c H locs 0 0 (MQ below (va_Qi Q (fun u t => mm_W D cl E A ad u t t.heap) A) args s 0 0 A) (F0 m 50 ls []) := by
  obtain ⟨hx, hb, hml, hown, hts, hr, hlocks⟩ := id C0
  intro n
  induction n with
  | zero =>
    intro x1 σ H locs ls hw hW hS hl
    exact absurd hw (by unfold mmw_back_50; exact id)
  | succ n ih =>
    intro x1 σ H locs ls hw hW hS hl
    unfold mmw_back_50 at hw
    refine lv_iload_n hx hb dX8_back_50 rfl (lv_at hl 1 rfl) ?_
    refine lv_bipush (v := (10 : Int32)) hx hb dX8_back_51 (by decide) ?_
    refine lv_icmp_ge (tgt := 74) hx hb dX8_back_53 (by decide) (fun c5 => ?_) (fun c5 => ?_)
    · have hw := hw.1 c5
      refine lv_aload_n hx hb dX8_back_74 rfl (lv_at hl 0 rfl) ?_
      refine lv_aload_n hx hb dX8_back_75 rfl (lv_at hl 0 rfl) ?_
      refine mm_geti hx hb hts hown hW 40 (by decide) q1311 dX8_back_76 ?_
      refine mm_puti hx hb hts hown hW hS 12 (by decide) q1283 rfl rfl rfl dX8_back_79 (fun H locs hW hS => ?_)
      obtain ⟨σ1, eσ1⟩ : ∃ z, z = gg_s σ 0 12 (gg_g σ 0 40) := ⟨_, rfl⟩
      rw [← eσ1] at hW
      have hw := hw σ1 eσ1
      refine lv_aload_n hx hb dX8_back_82 rfl (lv_at hl 0 rfl) ?_
      refine lv_aload_n hx hb dX8_back_83 rfl (lv_at hl 0 rfl) ?_
      refine mm_geti hx hb hts hown hW 41 (by decide) q1312 dX8_back_84 ?_
      refine mm_puti hx hb hts hown hW hS 7 (by decide) q1278 rfl rfl rfl dX8_back_87 (fun H locs hW hS => ?_)
      obtain ⟨σ2, eσ2⟩ : ∃ z, z = gg_s σ1 0 7 (gg_g σ1 0 41) := ⟨_, rfl⟩
      rw [← eσ2] at hW
      have hw := hw σ2 eσ2
      refine lv_aload_n hx hb dX8_back_90 rfl (lv_at hl 0 rfl) ?_
      refine lv_aload_n hx hb dX8_back_91 rfl (lv_at hl 0 rfl) ?_
      refine mm_geti hx hb hts hown hW 42 (by decide) q1313 dX8_back_92 ?_
      refine mm_puti hx hb hts hown hW hS 4 (by decide) q1275 rfl rfl rfl dX8_back_95 (fun H locs hW hS => ?_)
      obtain ⟨σ3, eσ3⟩ : ∃ z, z = gg_s σ2 0 4 (gg_g σ2 0 42) := ⟨_, rfl⟩
      rw [← eσ3] at hW
      have hw := hw σ3 eσ3
      refine lv_aload_n hx hb dX8_back_98 rfl (lv_at hl 0 rfl) ?_
      refine mm_geti hx hb hts hown hW 12 (by decide) q1283 dX8_back_99 ?_
      exact gg_iret (mm_mv D cl E A ad) C0 hW hS hw dX8_back_102
    · have hw := hw.2 c5
      refine lv_aload_n hx hb dX8_back_56 rfl (lv_at hl 0 rfl) ?_
      refine mm_getr hx hb hts hown hW 11 7 (by decide) q1282 dX8_back_57 ?_
      refine lv_iload_n hx hb dX8_back_60 rfl (lv_at hl 1 rfl) ?_
      refine lv_aload_n hx hb dX8_back_61 rfl (lv_at hl 0 rfl) ?_
      refine mm_getr hx hb hts hown hW 39 17 (by decide) q1310 dX8_back_62 ?_
      refine lv_iload_n hx hb dX8_back_65 rfl (lv_at hl 1 rfl) ?_
      obtain ⟨hin, hw⟩ := hw
      refine mm_ald hx hb hW 16 (by decide) hin dX8_back_66 ?_
      obtain ⟨hin, hw⟩ := hw
      refine mm_ast hx hb hW hS 6 (by decide) hin dX8_back_67 (fun H locs hW hS => ?_)
      obtain ⟨σ4, eσ4⟩ : ∃ z, z = gg_s σ 7 x1.toNatClampNeg (gg_g σ 17 x1.toNatClampNeg) := ⟨_, rfl⟩
      rw [← eσ4] at hW
      have hw := hw σ4 eσ4
      refine lv_iinc (v := (x1 + (1 : Int32))) (lv' := [(1, .int (x1 + (1 : Int32))), (0, .ref (ad 0))]) hx hb dX8_back_68 hl (k := 1) rfl rfl (by decide) rfl (fun ls hl => ?_)
      refine lv_goto (tgt := 50) hx hb dX8_back_71 (by decide) ?_
      exact ih (x1 + (1 : Int32)) σ4 _ _ _ hw hW hS (lv_sub hl [1, 0] rfl)
set_option maxHeartbeats 4000000 in
set_option maxRecDepth 100000 in
theorem mmk_back_13 {p : Program} {l : Launch} {e : Env} {s : State} {m : MethodId} {args : Array Value} {below : List Frame} {meth : Method} {c : Code} {D : va_G} {cl : List vw_C} {E : ClassId × ClassId} {A : Nat → Prop} {ad : Nat → Nat} {Q : Int32 → gg_S → Prop}   (C0 : gg_C p s m args meth c RX8 cX8_back 2 (some .int))  :
    ∀ n : Nat, ∀ (x1 : Int32) (σ : gg_S) (H : Heap) (locs : List Loc) (ls : Array Slot), mmw_back_13 Q n x1 σ → mm_W D cl E A ad σ s H → va_S A s.heap H locs → lv_has ls 2 [(0, .ref (ad 0)), (1, .int x1)] → W p l e mmr_back s m args below meth c H locs 0 0 (MQ below (va_Qi Q (fun u t => mm_W D cl E A ad u t t.heap) A) args s 0 0 A) (F0 m 13 ls []) := by
  obtain ⟨hx, hb, hml, hown, hts, hr, hlocks⟩ := id C0
  intro n
  induction n with
  | zero =>
    intro x1 σ H locs ls hw hW hS hl
    exact absurd hw (by unfold mmw_back_13; exact id)
  | succ n ih =>
    intro x1 σ H locs ls hw hW hS hl
    unfold mmw_back_13 at hw
    refine lv_iload_n hx hb dX8_back_13 rfl (lv_at hl 1 rfl) ?_
    refine lv_iconst (v := (4 : Int32)) hx hb dX8_back_14 (by decide) ?_
    refine lv_icmp_ge (tgt := 48) hx hb dX8_back_15 (by decide) (fun c8 => ?_) (fun c8 => ?_)
    · have hw := hw.1 c8
      refine lv_iconst (v := (0 : Int32)) hx hb dX8_back_48 (by decide) ?_
      refine lv_istore_n (lv' := [(1, .int (0 : Int32)), (0, .ref (ad 0))]) hx hb dX8_back_49 rfl hl (by decide) rfl (fun ls hl => ?_)
      obtain ⟨n9, hw⟩ := hw
      exact mmk_back_50  C0   n9 (0 : Int32) σ _ _ _ hw hW hS (lv_sub hl [1, 0] rfl)
    · have hw := hw.2 c8
      refine lv_aload_n hx hb dX8_back_18 rfl (lv_at hl 0 rfl) ?_
      refine mm_getr hx hb hts hown hW 8 4 (by decide) q1279 dX8_back_19 ?_
      refine lv_iload_n hx hb dX8_back_22 rfl (lv_at hl 1 rfl) ?_
      refine lv_aload_n hx hb dX8_back_23 rfl (lv_at hl 0 rfl) ?_
      refine mm_getr hx hb hts hown hW 37 15 (by decide) q1308 dX8_back_24 ?_
      refine lv_iload_n hx hb dX8_back_27 rfl (lv_at hl 1 rfl) ?_
      obtain ⟨hin, hw⟩ := hw
      refine mm_ald hx hb hW 14 (by decide) hin dX8_back_28 ?_
      obtain ⟨hin, hw⟩ := hw
      refine mm_ast hx hb hW hS 3 (by decide) hin dX8_back_29 (fun H locs hW hS => ?_)
      obtain ⟨σ6, eσ6⟩ : ∃ z, z = gg_s σ 4 x1.toNatClampNeg (gg_g σ 15 x1.toNatClampNeg) := ⟨_, rfl⟩
      rw [← eσ6] at hW
      have hw := hw σ6 eσ6
      refine lv_aload_n hx hb dX8_back_30 rfl (lv_at hl 0 rfl) ?_
      refine mm_getr hx hb hts hown hW 9 5 (by decide) q1280 dX8_back_31 ?_
      refine lv_iload_n hx hb dX8_back_34 rfl (lv_at hl 1 rfl) ?_
      refine lv_aload_n hx hb dX8_back_35 rfl (lv_at hl 0 rfl) ?_
      refine mm_getr hx hb hts hown hW 38 16 (by decide) q1309 dX8_back_36 ?_
      refine lv_iload_n hx hb dX8_back_39 rfl (lv_at hl 1 rfl) ?_
      obtain ⟨hin, hw⟩ := hw
      refine mm_ald hx hb hW 15 (by decide) hin dX8_back_40 ?_
      obtain ⟨hin, hw⟩ := hw
      refine mm_ast hx hb hW hS 4 (by decide) hin dX8_back_41 (fun H locs hW hS => ?_)
      obtain ⟨σ7, eσ7⟩ : ∃ z, z = gg_s σ6 5 x1.toNatClampNeg (gg_g σ6 16 x1.toNatClampNeg) := ⟨_, rfl⟩
      rw [← eσ7] at hW
      have hw := hw σ7 eσ7
      refine lv_iinc (v := (x1 + (1 : Int32))) (lv' := [(1, .int (x1 + (1 : Int32))), (0, .ref (ad 0))]) hx hb dX8_back_42 hl (k := 1) rfl rfl (by decide) rfl (fun ls hl => ?_)
      refine lv_goto (tgt := 13) hx hb dX8_back_45 (by decide) ?_
      exact ih (x1 + (1 : Int32)) σ7 _ _ _ hw hW hS (lv_sub hl [1, 0] rfl)
set_option maxHeartbeats 4000000 in
set_option maxRecDepth 100000 in
theorem mmt_back (l : Launch) {D : va_G} {cl : List vw_C} {E : ClassId × ClassId} {A : Nat → Prop} {ad : Nat → Nat}   (σ : gg_S) {Q : Int32 → gg_S → Prop} (hw : mmw_back σ Q) :
    Met l yX8_back (ws_ yX8_back cX8_back 2 (some .int)) mmr_back (va_Pc [.ref (ad 0)] (fun U => mm_W D cl E A ad σ U U.heap)) (va_Qi Q (fun u t => mm_W D cl E A ad u t t.heap) A) 0 0 A := by
  refine gg_entry (W0 := fun s H => mm_W D cl E A ad σ s H) (by decide) (Nat.le_of_ble_eq_true rfl) ?_
  intro p e s m args below meth c C0 hW ls hl
  have C0 : gg_C p s m args meth c RX8 cX8_back 2 (some .int) := C0
  obtain ⟨hx, hb, hml, hown, hts, hr, hlocks⟩ := id C0
  have hl : lv_has ls 2 [(0, .ref (ad 0))] := hl
  have hS : va_S A s.heap s.heap [] := va_S.rf
  unfold mmw_back at hw
  refine lv_aload_n hx hb dX8_back_0 rfl (lv_at hl 0 rfl) ?_
  refine mm_geti hx hb hts hown hW 40 (by decide) q1311 dX8_back_1 ?_
  refine lv_iconst (v := (-1 : Int32)) hx hb dX8_back_4 (by decide) ?_
  refine lv_icmp_ne (tgt := 11) hx hb dX8_back_5 (by decide) (fun c9 => ?_) (fun c9 => ?_)
  · have hw := hw.2 c9
    refine lv_iconst (v := (0 : Int32)) hx hb dX8_back_11 (by decide) ?_
    refine lv_istore_n (lv' := [(1, .int (0 : Int32)), (0, .ref (ad 0))]) hx hb dX8_back_12 rfl hl (by decide) rfl (fun ls hl => ?_)
    obtain ⟨n9, hw⟩ := hw
    exact mmk_back_13  C0   n9 (0 : Int32) σ _ _ _ hw hW hS (lv_sub hl [1, 0] rfl)
  · have hw := hw.1 c9
    refine lv_bipush (v := (-3 : Int32)) hx hb dX8_back_8 (by decide) ?_
    exact gg_iret (mm_mv D cl E A ad) C0 hW hS hw dX8_back_10
theorem cd_X8_count : yX8_count.cls = RX8 ∧ yX8_count.cls ≠ "java/lang/invoke/MethodHandle" ∧ yX8_count.cls ≠ "java/lang/invoke/VarHandle" ∧ (parseMethodDescriptor yX8_count.desc).map (fun d => d.parameters.length) = some 1 := by decide +kernel
/-! GleanersForGapsModel.count(I)I -/
def mmw_count  (a1 : Int32) (σ : gg_S) (Q : Int32 → gg_S → Prop) : Prop :=
    (mmw_in ((a1).toInt64) (0 : Int64) (5 : Int64) σ (fun r2 σ1 => (((r2 = 0) → Q (-2 : Int32) σ1) ∧ (¬ (r2 = 0) → (((a1 = 0) → Q (gg_g σ1 0 12) σ1) ∧ (¬ (a1 = 0) → (((a1 = (1 : Int32)) → (mmw_gapsAll σ1 (fun r7 σ6 => Q r7 σ6))) ∧ (¬ (a1 = (1 : Int32)) → (((a1 = (2 : Int32)) → Q (gg_g σ1 0 7) σ1) ∧ (¬ (a1 = (2 : Int32)) → (((a1 = (3 : Int32)) → Q (gg_g σ1 0 3) σ1) ∧ (¬ (a1 = (3 : Int32)) → (((a1 = (4 : Int32)) → Q (gg_g σ1 0 6) σ1) ∧ (¬ (a1 = (4 : Int32)) → Q (gg_g σ1 0 4) σ1))))))))))))))
abbrev mmr_count : Room := { frames := 3, cells := 0, slots := 0, locals := 63 }
set_option maxHeartbeats 4000000 in
set_option maxRecDepth 100000 in
theorem mmt_count (l : Launch) {D : va_G} {cl : List vw_C} {E : ClassId × ClassId} {A : Nat → Prop} {ad : Nat → Nat}  (a1 : Int32) (σ : gg_S) {Q : Int32 → gg_S → Prop} (hw : mmw_count a1 σ Q) :
    Met l yX8_count (ws_ yX8_count cX8_count 2 (some .int)) mmr_count (va_Pc [.ref (ad 0), .int a1] (fun U => mm_W D cl E A ad σ U U.heap)) (va_Qi Q (fun u t => mm_W D cl E A ad u t t.heap) A) 0 0 A := by
  refine gg_entry (W0 := fun s H => mm_W D cl E A ad σ s H) (by decide) (Nat.le_of_ble_eq_true rfl) ?_
  intro p e s m args below meth c C0 hW ls hl
  have C0 : gg_C p s m args meth c RX8 cX8_count 2 (some .int) := C0
  obtain ⟨hx, hb, hml, hown, hts, hr, hlocks⟩ := id C0
  have hl : lv_has ls 2 [(0, .ref (ad 0)), (1, .int a1)] := hl
  have hS : va_S A s.heap s.heap [] := va_S.rf
  unfold mmw_count at hw
  refine lv_iload_n hx hb dX8_count_0 rfl (lv_at hl 1 rfl) ?_
  refine lv_i2l (v := (a1).toInt64) hx hb dX8_count_1 rfl ?_
  refine lv_lconst (v := (0 : Int64)) hx hb dX8_count_2 (by decide) ?_
  refine lv_ldc2 (own := RX8) (v := (5 : Int64)) hx hb hown (hts _ q1555) dX8_count_3 ?_
  refine mm_SI ⟨hx, hb, hml, hown, hts⟩ (mmt_in l _ _ _ _ hw) (va_cwS 3 hts (lw_S q1422 q1423 q120 q1424) rfl rfl rfl cd_X8_in.2 ⟨Nat.le_of_ble_eq_true rfl, Nat.le_of_ble_eq_true rfl⟩) hW hS rfl hl.1 rfl (Nat.le_of_ble_eq_true rfl) dX8_count_6 (fun r2 σ1 H locs hw hW hS => ?_)
  obtain ⟨hz_r2, hw⟩ := hw
  refine lv_if_ne (tgt := 15) hx hb dX8_count_9 (by decide) (fun c10 => ?_) (fun c10 => ?_)
  · have hw := hw.2 c10
    refine lv_iload_n hx hb dX8_count_15 rfl (lv_at hl 1 rfl) ?_
    refine lv_if_ne (tgt := 26) hx hb dX8_count_16 (by decide) (fun c9 => ?_) (fun c9 => ?_)
    · have hw := hw.2 c9
      refine lv_iload_n hx hb dX8_count_26 rfl (lv_at hl 1 rfl) ?_
      refine lv_iconst (v := (1 : Int32)) hx hb dX8_count_27 (by decide) ?_
      refine lv_icmp_ne (tgt := 38) hx hb dX8_count_28 (by decide) (fun c8 => ?_) (fun c8 => ?_)
      · have hw := hw.2 c8
        refine lv_iload_n hx hb dX8_count_38 rfl (lv_at hl 1 rfl) ?_
        refine lv_iconst (v := (2 : Int32)) hx hb dX8_count_39 (by decide) ?_
        refine lv_icmp_ne (tgt := 50) hx hb dX8_count_40 (by decide) (fun c5 => ?_) (fun c5 => ?_)
        · have hw := hw.2 c5
          refine lv_iload_n hx hb dX8_count_50 rfl (lv_at hl 1 rfl) ?_
          refine lv_iconst (v := (3 : Int32)) hx hb dX8_count_51 (by decide) ?_
          refine lv_icmp_ne (tgt := 62) hx hb dX8_count_52 (by decide) (fun c4 => ?_) (fun c4 => ?_)
          · have hw := hw.2 c4
            refine lv_iload_n hx hb dX8_count_62 rfl (lv_at hl 1 rfl) ?_
            refine lv_iconst (v := (4 : Int32)) hx hb dX8_count_63 (by decide) ?_
            refine lv_icmp_ne (tgt := 74) hx hb dX8_count_64 (by decide) (fun c3 => ?_) (fun c3 => ?_)
            · have hw := hw.2 c3
              refine lv_aload_n hx hb dX8_count_74 rfl (lv_at hl 0 rfl) ?_
              refine mm_geti hx hb hts hown hW 4 (by decide) q1275 dX8_count_75 ?_
              exact gg_iret (mm_mv D cl E A ad) C0 hW hS hw dX8_count_78
            · have hw := hw.1 c3
              refine lv_aload_n hx hb dX8_count_67 rfl (lv_at hl 0 rfl) ?_
              refine mm_geti hx hb hts hown hW 6 (by decide) q1277 dX8_count_68 ?_
              refine lv_goto (tgt := 78) hx hb dX8_count_71 (by decide) ?_
              exact gg_iret (mm_mv D cl E A ad) C0 hW hS hw dX8_count_78
          · have hw := hw.1 c4
            refine lv_aload_n hx hb dX8_count_55 rfl (lv_at hl 0 rfl) ?_
            refine mm_geti hx hb hts hown hW 3 (by decide) q1274 dX8_count_56 ?_
            refine lv_goto (tgt := 78) hx hb dX8_count_59 (by decide) ?_
            exact gg_iret (mm_mv D cl E A ad) C0 hW hS hw dX8_count_78
        · have hw := hw.1 c5
          refine lv_aload_n hx hb dX8_count_43 rfl (lv_at hl 0 rfl) ?_
          refine mm_geti hx hb hts hown hW 7 (by decide) q1278 dX8_count_44 ?_
          refine lv_goto (tgt := 78) hx hb dX8_count_47 (by decide) ?_
          exact gg_iret (mm_mv D cl E A ad) C0 hW hS hw dX8_count_78
      · have hw := hw.1 c8
        refine lv_aload_n hx hb dX8_count_31 rfl (lv_at hl 0 rfl) ?_
        refine mm_VI ⟨hx, hb, hml, hown, hts⟩ (mmt_gapsAll l _ hw) (cwV 0 hts (lw_V q1611 q1613 qs90 q120 q1614) rfl rfl rfl cd_X8_gapsAll ⟨Nat.le_of_ble_eq_true rfl, Nat.le_of_ble_eq_true rfl⟩) hW (mm_recv hW) hS rfl hl.1 rfl (Nat.le_of_ble_eq_true rfl) dX8_count_32 (fun r7 σ6 H locs hw hW hS => ?_)
        refine lv_goto (tgt := 78) hx hb dX8_count_35 (by decide) ?_
        exact gg_iret (mm_mv D cl E A ad) C0 hW hS hw dX8_count_78
    · have hw := hw.1 c9
      refine lv_aload_n hx hb dX8_count_19 rfl (lv_at hl 0 rfl) ?_
      refine mm_geti hx hb hts hown hW 12 (by decide) q1283 dX8_count_20 ?_
      refine lv_goto (tgt := 78) hx hb dX8_count_23 (by decide) ?_
      exact gg_iret (mm_mv D cl E A ad) C0 hW hS hw dX8_count_78
  · have hw := hw.1 c10
    refine lv_bipush (v := (-2 : Int32)) hx hb dX8_count_12 (by decide) ?_
    exact gg_iret (mm_mv D cl E A ad) C0 hW hS hw dX8_count_14
theorem cd_X8_cell : yX8_cell.cls = RX8 ∧ yX8_cell.cls ≠ "java/lang/invoke/MethodHandle" ∧ yX8_cell.cls ≠ "java/lang/invoke/VarHandle" ∧ (parseMethodDescriptor yX8_cell.desc).map (fun d => d.parameters.length) = some 3 := by decide +kernel
/-! GleanersForGapsModel.cell(III)I -/
def mmw_cell_83  (Q : Int32 → gg_S → Prop)  (s1 : Int32) (s2 : Int32) (σ : gg_S) : Prop :=
    vp_in s1 160 ∧ (∀ σ5 : gg_S, σ5 = gg_s σ 21 s1.toNatClampNeg s2 → Q (1 : Int32) σ5)
def mmw_cell  (a1 : Int32) (a2 : Int32) (a3 : Int32) (σ : gg_S) (Q : Int32 → gg_S → Prop) : Prop :=
    (mmw_isSheet a1 σ (fun r2 σ1 => (((r2 = 0) → Q (-2 : Int32) σ1) ∧ (¬ (r2 = 0) → vp_in a1 4 ∧ ((((gg_g σ1 18 a1.toNatClampNeg) = 0) → Q (-11 : Int32) σ1) ∧ (¬ ((gg_g σ1 18 a1.toNatClampNeg) = 0) → vp_in a1 4 ∧ (mmw_in ((a2).toInt64) (0 : Int64) ((((gg_g σ1 20 a1.toNatClampNeg) - (1 : Int32))).toInt64) σ1 (fun r4 σ3 => (((r4 = 0) → Q (-12 : Int32) σ3) ∧ (¬ (r4 = 0) → vp_in a1 4 ∧ ((((gg_g σ3 19 a1.toNatClampNeg) = 0) → mmw_cell_83 Q (((40 : Int32) * a1) + a2) ((a3).toInt8.toInt32) σ3) ∧ (¬ ((gg_g σ3 19 a1.toNatClampNeg) = 0) → vp_in a1 4 ∧ ((((gg_g σ3 19 a1.toNatClampNeg) = (1 : Int32)) → mmw_cell_83 Q (((40 : Int32) * a1) + a2) ((a3).toInt16.toInt32) σ3) ∧ (¬ ((gg_g σ3 19 a1.toNatClampNeg) = (1 : Int32)) → mmw_cell_83 Q (((40 : Int32) * a1) + a2) a3 σ3))))))))))))))
abbrev mmr_cell : Room := { frames := 2, cells := 0, slots := 0, locals := 45 }
set_option maxHeartbeats 4000000 in
set_option maxRecDepth 100000 in
theorem mmk_cell_83 {p : Program} {l : Launch} {e : Env} {s : State} {m : MethodId} {args : Array Value} {below : List Frame} {meth : Method} {c : Code} {D : va_G} {cl : List vw_C} {E : ClassId × ClassId} {A : Nat → Prop} {ad : Nat → Nat} {Q : Int32 → gg_S → Prop}   (C0 : gg_C p s m args meth c RX8 cX8_cell 4 (some .int))  :
    ∀ (s1 : Int32) (s2 : Int32) (σ : gg_S) (H : Heap) (locs : List Loc) (ls : Array Slot), mmw_cell_83 Q s1 s2 σ → mm_W D cl E A ad σ s H → va_S A s.heap H locs → lv_has ls 4 [(0, .ref (ad 0))] → W p l e mmr_cell s m args below meth c H locs 0 0 (MQ below (va_Qi Q (fun u t => mm_W D cl E A ad u t t.heap) A) args s 0 0 A) (F0 m 83 ls [.int s2, .int s1, .ref (ad 21)]) := by
  obtain ⟨hx, hb, hml, hown, hts, hr, hlocks⟩ := id C0
  intro s1 s2 σ H locs ls hw hW hS hl
  unfold mmw_cell_83 at hw
  obtain ⟨hin, hw⟩ := hw
  refine mm_ast hx hb hW hS 20 (by decide) hin dX8_cell_83 (fun H locs hW hS => ?_)
  obtain ⟨σ5, eσ5⟩ : ∃ z, z = gg_s σ 21 s1.toNatClampNeg s2 := ⟨_, rfl⟩
  rw [← eσ5] at hW
  have hw := hw σ5 eσ5
  refine lv_iconst (v := (1 : Int32)) hx hb dX8_cell_84 (by decide) ?_
  exact gg_iret (mm_mv D cl E A ad) C0 hW hS hw dX8_cell_85
set_option maxHeartbeats 4000000 in
set_option maxRecDepth 100000 in
theorem mmt_cell (l : Launch) {D : va_G} {cl : List vw_C} {E : ClassId × ClassId} {A : Nat → Prop} {ad : Nat → Nat}  (a1 : Int32) (a2 : Int32) (a3 : Int32) (σ : gg_S) {Q : Int32 → gg_S → Prop} (hw : mmw_cell a1 a2 a3 σ Q) :
    Met l yX8_cell (ws_ yX8_cell cX8_cell 4 (some .int)) mmr_cell (va_Pc [.ref (ad 0), .int a1, .int a2, .int a3] (fun U => mm_W D cl E A ad σ U U.heap)) (va_Qi Q (fun u t => mm_W D cl E A ad u t t.heap) A) 0 0 A := by
  refine gg_entry (W0 := fun s H => mm_W D cl E A ad σ s H) (by decide) (Nat.le_of_ble_eq_true rfl) ?_
  intro p e s m args below meth c C0 hW ls hl
  have C0 : gg_C p s m args meth c RX8 cX8_cell 4 (some .int) := C0
  obtain ⟨hx, hb, hml, hown, hts, hr, hlocks⟩ := id C0
  have hl : lv_has ls 4 [(0, .ref (ad 0)), (1, .int a1), (2, .int a2), (3, .int a3)] := hl
  have hS : va_S A s.heap s.heap [] := va_S.rf
  unfold mmw_cell at hw
  refine lv_iload_n hx hb dX8_cell_0 rfl (lv_at hl 1 rfl) ?_
  refine mm_SI ⟨hx, hb, hml, hown, hts⟩ (mmt_isSheet l _ _ hw) (va_cwS 1 hts (lw_S q1681 q1682 q120 q1683) rfl rfl rfl cd_X8_isSheet.2 ⟨Nat.le_of_ble_eq_true rfl, Nat.le_of_ble_eq_true rfl⟩) hW hS rfl hl.1 rfl (Nat.le_of_ble_eq_true rfl) dX8_cell_1 (fun r2 σ1 H locs hw hW hS => ?_)
  obtain ⟨hz_r2, hw⟩ := hw
  refine lv_if_ne (tgt := 10) hx hb dX8_cell_4 (by decide) (fun c10 => ?_) (fun c10 => ?_)
  · have hw := hw.2 c10
    refine lv_aload_n hx hb dX8_cell_10 rfl (lv_at hl 0 rfl) ?_
    refine mm_getr hx hb hts hown hW 43 18 (by decide) q1314 dX8_cell_11 ?_
    refine lv_iload_n hx hb dX8_cell_14 rfl (lv_at hl 1 rfl) ?_
    obtain ⟨hin, hw⟩ := hw
    refine mm_zld hx hb hW hin dX8_cell_15 ?_
    refine lv_if_ne (tgt := 22) hx hb dX8_cell_16 (by decide) (fun c9 => ?_) (fun c9 => ?_)
    · have hw := hw.2 c9
      refine lv_iload_n hx hb dX8_cell_22 rfl (lv_at hl 2 rfl) ?_
      refine lv_i2l (v := (a2).toInt64) hx hb dX8_cell_23 rfl ?_
      refine lv_lconst (v := (0 : Int64)) hx hb dX8_cell_24 (by decide) ?_
      refine lv_aload_n hx hb dX8_cell_25 rfl (lv_at hl 0 rfl) ?_
      refine mm_getr hx hb hts hown hW 45 20 (by decide) q1316 dX8_cell_26 ?_
      refine lv_iload_n hx hb dX8_cell_29 rfl (lv_at hl 1 rfl) ?_
      obtain ⟨hin, hw⟩ := hw
      refine mm_ald hx hb hW 19 (by decide) hin dX8_cell_30 ?_
      refine lv_iconst (v := (1 : Int32)) hx hb dX8_cell_31 (by decide) ?_
      refine lv_isub hx hb dX8_cell_32 ?_
      refine lv_i2l (v := (((gg_g σ1 20 a1.toNatClampNeg) - (1 : Int32))).toInt64) hx hb dX8_cell_33 rfl ?_
      refine mm_SI ⟨hx, hb, hml, hown, hts⟩ (mmt_in l _ _ _ _ hw) (va_cwS 3 hts (lw_S q1422 q1423 q120 q1424) rfl rfl rfl cd_X8_in.2 ⟨Nat.le_of_ble_eq_true rfl, Nat.le_of_ble_eq_true rfl⟩) hW hS rfl hl.1 rfl (Nat.le_of_ble_eq_true rfl) dX8_cell_34 (fun r4 σ3 H locs hw hW hS => ?_)
      obtain ⟨hz_r4, hw⟩ := hw
      refine lv_if_ne (tgt := 43) hx hb dX8_cell_37 (by decide) (fun c8 => ?_) (fun c8 => ?_)
      · have hw := hw.2 c8
        refine lv_aload_n hx hb dX8_cell_43 rfl (lv_at hl 0 rfl) ?_
        refine mm_getr hx hb hts hown hW 46 21 (by decide) q1317 dX8_cell_44 ?_
        refine lv_bipush (v := (40 : Int32)) hx hb dX8_cell_47 (by decide) ?_
        refine lv_iload_n hx hb dX8_cell_49 rfl (lv_at hl 1 rfl) ?_
        refine lv_imul hx hb dX8_cell_50 ?_
        refine lv_iload_n hx hb dX8_cell_51 rfl (lv_at hl 2 rfl) ?_
        refine lv_iadd hx hb dX8_cell_52 ?_
        refine lv_aload_n hx hb dX8_cell_53 rfl (lv_at hl 0 rfl) ?_
        refine mm_getr hx hb hts hown hW 44 19 (by decide) q1315 dX8_cell_54 ?_
        refine lv_iload_n hx hb dX8_cell_57 rfl (lv_at hl 1 rfl) ?_
        obtain ⟨hin, hw⟩ := hw
        refine mm_ald hx hb hW 18 (by decide) hin dX8_cell_58 ?_
        refine lv_if_ne (tgt := 67) hx hb dX8_cell_59 (by decide) (fun c7 => ?_) (fun c7 => ?_)
        · have hw := hw.2 c7
          refine lv_aload_n hx hb dX8_cell_67 rfl (lv_at hl 0 rfl) ?_
          refine mm_getr hx hb hts hown hW 44 19 (by decide) q1315 dX8_cell_68 ?_
          refine lv_iload_n hx hb dX8_cell_71 rfl (lv_at hl 1 rfl) ?_
          obtain ⟨hin, hw⟩ := hw
          refine mm_ald hx hb hW 18 (by decide) hin dX8_cell_72 ?_
          refine lv_iconst (v := (1 : Int32)) hx hb dX8_cell_73 (by decide) ?_
          refine lv_icmp_ne (tgt := 82) hx hb dX8_cell_74 (by decide) (fun c6 => ?_) (fun c6 => ?_)
          · have hw := hw.2 c6
            refine lv_iload_n hx hb dX8_cell_82 rfl (lv_at hl 3 rfl) ?_
            exact mmk_cell_83  C0   (((40 : Int32) * a1) + a2) a3 σ3 _ _ _ hw hW hS (lv_sub hl [0] rfl)
          · have hw := hw.1 c6
            refine lv_iload_n hx hb dX8_cell_77 rfl (lv_at hl 3 rfl) ?_
            refine lv_i2s (v := (a3).toInt16.toInt32) hx hb dX8_cell_78 rfl ?_
            refine lv_goto (tgt := 83) hx hb dX8_cell_79 (by decide) ?_
            exact mmk_cell_83  C0   (((40 : Int32) * a1) + a2) ((a3).toInt16.toInt32) σ3 _ _ _ hw hW hS (lv_sub hl [0] rfl)
        · have hw := hw.1 c7
          refine lv_iload_n hx hb dX8_cell_62 rfl (lv_at hl 3 rfl) ?_
          refine lv_i2b (v := (a3).toInt8.toInt32) hx hb dX8_cell_63 rfl ?_
          refine lv_goto (tgt := 83) hx hb dX8_cell_64 (by decide) ?_
          exact mmk_cell_83  C0   (((40 : Int32) * a1) + a2) ((a3).toInt8.toInt32) σ3 _ _ _ hw hW hS (lv_sub hl [0] rfl)
      · have hw := hw.1 c8
        refine lv_bipush (v := (-12 : Int32)) hx hb dX8_cell_40 (by decide) ?_
        exact gg_iret (mm_mv D cl E A ad) C0 hW hS hw dX8_cell_42
    · have hw := hw.1 c9
      refine lv_bipush (v := (-11 : Int32)) hx hb dX8_cell_19 (by decide) ?_
      exact gg_iret (mm_mv D cl E A ad) C0 hW hS hw dX8_cell_21
  · have hw := hw.1 c10
    refine lv_bipush (v := (-2 : Int32)) hx hb dX8_cell_7 (by decide) ?_
    exact gg_iret (mm_mv D cl E A ad) C0 hW hS hw dX8_cell_9
theorem cd_X8_copy : yX8_copy.cls = RX8 ∧ yX8_copy.cls ≠ "java/lang/invoke/MethodHandle" ∧ yX8_copy.cls ≠ "java/lang/invoke/VarHandle" ∧ (parseMethodDescriptor yX8_copy.desc).map (fun d => d.parameters.length) = some 5 := by decide +kernel
/-! GleanersForGapsModel.copy(IIIII)I -/
def mmw_copy_145  (Q : Int32 → gg_S → Prop) (K121 : Int32 → Int32 → Int32 → Int32 → Int32 → Int32 → Int32 → gg_S → Prop) (x1 : Int32) (x2 : Int32) (x3 : Int32) (x4 : Int32) (x5 : Int32) (x6 : Int32) (x7 : Int32) (s0 : Int32) (σ : gg_S) : Prop :=
    vp_in ((((40 : Int32) * x1) + x2) + s0) 160 ∧ vp_in ((((40 : Int32) * x3) + x4) + s0) 160 ∧ (∀ σ5 : gg_S, σ5 = gg_s σ 21 ((((40 : Int32) * x3) + x4) + s0).toNatClampNeg (gg_g σ 21 ((((40 : Int32) * x1) + x2) + s0).toNatClampNeg) → K121 x1 x2 x3 x4 x5 x6 (x7 + (1 : Int32)) σ5)
def mmw_copy_121  (Q : Int32 → gg_S → Prop)  : Nat → Int32 → Int32 → Int32 → Int32 → Int32 → Int32 → Int32 → gg_S → Prop
  | 0, _, _, _, _, _, _, _, _ => False
  | n + 1, x1, x2, x3, x4, x5, x6, x7, σ =>
    (((x5 ≤ x7) → Q x5 σ) ∧ (¬ (x5 ≤ x7) → (((x6 = 0) → mmw_copy_145 Q (fun y0 y1 y2 y3 y4 y5 y6 τ => mmw_copy_121 Q n y0 y1 y2 y3 y4 y5 y6 τ) x1 x2 x3 x4 x5 x6 x7 x7 σ) ∧ (¬ (x6 = 0) → mmw_copy_145 Q (fun y0 y1 y2 y3 y4 y5 y6 τ => mmw_copy_121 Q n y0 y1 y2 y3 y4 y5 y6 τ) x1 x2 x3 x4 x5 x6 x7 ((x5 - (1 : Int32)) - x7) σ))))
def mmw_copy_116  (Q : Int32 → gg_S → Prop)  (x1 : Int32) (x2 : Int32) (x3 : Int32) (x4 : Int32) (x5 : Int32) (s0 : Int32) (σ : gg_S) : Prop :=
    ∃ k9, mmw_copy_121 Q k9 x1 x2 x3 x4 x5 s0 (0 : Int32) σ
def mmw_copy_115  (Q : Int32 → gg_S → Prop)  (x1 : Int32) (x2 : Int32) (x3 : Int32) (x4 : Int32) (x5 : Int32) (σ : gg_S) : Prop :=
    mmw_copy_116 Q x1 x2 x3 x4 x5 (0 : Int32) σ
def mmw_copy  (a1 : Int32) (a2 : Int32) (a3 : Int32) (a4 : Int32) (a5 : Int32) (σ : gg_S) (Q : Int32 → gg_S → Prop) : Prop :=
    (mmw_isSheet a1 σ (fun r2 σ1 => (((r2 = 0) → Q (-2 : Int32) σ1) ∧ (¬ (r2 = 0) → (mmw_isSheet a3 σ1 (fun r4 σ3 => (((r4 = 0) → Q (-2 : Int32) σ3) ∧ (¬ (r4 = 0) → vp_in a1 4 ∧ ((((gg_g σ3 18 a1.toNatClampNeg) = 0) → Q (-11 : Int32) σ3) ∧ (¬ ((gg_g σ3 18 a1.toNatClampNeg) = 0) → vp_in a3 4 ∧ ((((gg_g σ3 18 a3.toNatClampNeg) = 0) → Q (-11 : Int32) σ3) ∧ (¬ ((gg_g σ3 18 a3.toNatClampNeg) = 0) → vp_in a1 4 ∧ vp_in a3 4 ∧ ((((gg_g σ3 19 a1.toNatClampNeg) = (gg_g σ3 19 a3.toNatClampNeg)) → (((a5 < 0) → Q (-12 : Int32) σ3) ∧ (¬ (a5 < 0) → (((a2 < 0) → Q (-12 : Int32) σ3) ∧ (¬ (a2 < 0) → (((a4 < 0) → Q (-12 : Int32) σ3) ∧ (¬ (a4 < 0) → vp_in a1 4 ∧ (((((gg_g σ3 20 a1.toNatClampNeg) - a5) < a2) → Q (-12 : Int32) σ3) ∧ (¬ (((gg_g σ3 20 a1.toNatClampNeg) - a5) < a2) → vp_in a3 4 ∧ (((a4 ≤ ((gg_g σ3 20 a3.toNatClampNeg) - a5)) → (((a1 = a3) → (((a4 ≤ a2) → mmw_copy_115 Q a1 a2 a3 a4 a5 σ3) ∧ (¬ (a4 ≤ a2) → mmw_copy_116 Q a1 a2 a3 a4 a5 (1 : Int32) σ3))) ∧ (¬ (a1 = a3) → mmw_copy_115 Q a1 a2 a3 a4 a5 σ3))) ∧ (¬ (a4 ≤ ((gg_g σ3 20 a3.toNatClampNeg) - a5)) → Q (-12 : Int32) σ3))))))))))) ∧ (¬ ((gg_g σ3 19 a1.toNatClampNeg) = (gg_g σ3 19 a3.toNatClampNeg)) → Q (-13 : Int32) σ3))))))))))))))
abbrev mmr_copy : Room := { frames := 2, cells := 0, slots := 0, locals := 45 }
set_option maxHeartbeats 4000000 in
set_option maxRecDepth 100000 in
theorem mmk_copy_145 {p : Program} {l : Launch} {e : Env} {s : State} {m : MethodId} {args : Array Value} {below : List Frame} {meth : Method} {c : Code} {D : va_G} {cl : List vw_C} {E : ClassId × ClassId} {A : Nat → Prop} {ad : Nat → Nat} {Q : Int32 → gg_S → Prop} {K121 : Int32 → Int32 → Int32 → Int32 → Int32 → Int32 → Int32 → gg_S → Prop}  (C0 : gg_C p s m args meth c RX8 cX8_copy 9 (some .int)) (hK121 : ∀ (x1 : Int32) (x2 : Int32) (x3 : Int32) (x4 : Int32) (x5 : Int32) (x6 : Int32) (x7 : Int32) (σ : gg_S) (H : Heap) (locs : List Loc) (ls : Array Slot), K121 x1 x2 x3 x4 x5 x6 x7 σ → mm_W D cl E A ad σ s H → va_S A s.heap H locs → lv_has ls 9 [(0, .ref (ad 0)), (1, .int x1), (2, .int x2), (3, .int x3), (4, .int x4), (5, .int x5), (6, .int x6), (7, .int x7)] → W p l e mmr_copy s m args below meth c H locs 0 0 (MQ below (va_Qi Q (fun u t => mm_W D cl E A ad u t t.heap) A) args s 0 0 A) (F0 m 121 ls [])) :
    ∀ (x1 : Int32) (x2 : Int32) (x3 : Int32) (x4 : Int32) (x5 : Int32) (x6 : Int32) (x7 : Int32) (s0 : Int32) (σ : gg_S) (H : Heap) (locs : List Loc) (ls : Array Slot), mmw_copy_145 Q K121 x1 x2 x3 x4 x5 x6 x7 s0 σ → mm_W D cl E A ad σ s H → va_S A s.heap H locs → lv_has ls 9 [(0, .ref (ad 0)), (1, .int x1), (2, .int x2), (3, .int x3), (4, .int x4), (5, .int x5), (6, .int x6), (7, .int x7)] → W p l e mmr_copy s m args below meth c H locs 0 0 (MQ below (va_Qi Q (fun u t => mm_W D cl E A ad u t t.heap) A) args s 0 0 A) (F0 m 145 ls [.int s0]) := by
  obtain ⟨hx, hb, hml, hown, hts, hr, hlocks⟩ := id C0
  intro x1 x2 x3 x4 x5 x6 x7 s0 σ H locs ls hw hW hS hl
  unfold mmw_copy_145 at hw
  refine lv_istore (lv' := [(8, .int s0), (0, .ref (ad 0)), (1, .int x1), (2, .int x2), (3, .int x3), (4, .int x4), (5, .int x5), (6, .int x6), (7, .int x7)]) hx hb dX8_copy_145 hl (by decide) rfl (fun ls hl => ?_)
  refine lv_aload_n hx hb dX8_copy_147 rfl (lv_at hl 1 rfl) ?_
  refine mm_getr hx hb hts hown hW 46 21 (by decide) q1317 dX8_copy_148 ?_
  refine lv_bipush (v := (40 : Int32)) hx hb dX8_copy_151 (by decide) ?_
  refine lv_iload_n hx hb dX8_copy_153 rfl (lv_at hl 4 rfl) ?_
  refine lv_imul hx hb dX8_copy_154 ?_
  refine lv_iload hx hb dX8_copy_155 (lv_at hl 5 rfl) ?_
  refine lv_iadd hx hb dX8_copy_157 ?_
  refine lv_iload hx hb dX8_copy_158 (lv_at hl 0 rfl) ?_
  refine lv_iadd hx hb dX8_copy_160 ?_
  refine lv_aload_n hx hb dX8_copy_161 rfl (lv_at hl 1 rfl) ?_
  refine mm_getr hx hb hts hown hW 46 21 (by decide) q1317 dX8_copy_162 ?_
  refine lv_bipush (v := (40 : Int32)) hx hb dX8_copy_165 (by decide) ?_
  refine lv_iload_n hx hb dX8_copy_167 rfl (lv_at hl 2 rfl) ?_
  refine lv_imul hx hb dX8_copy_168 ?_
  refine lv_iload_n hx hb dX8_copy_169 rfl (lv_at hl 3 rfl) ?_
  refine lv_iadd hx hb dX8_copy_170 ?_
  refine lv_iload hx hb dX8_copy_171 (lv_at hl 0 rfl) ?_
  refine lv_iadd hx hb dX8_copy_173 ?_
  obtain ⟨hin, hw⟩ := hw
  refine mm_ald hx hb hW 20 (by decide) hin dX8_copy_174 ?_
  obtain ⟨hin, hw⟩ := hw
  refine mm_ast hx hb hW hS 20 (by decide) hin dX8_copy_175 (fun H locs hW hS => ?_)
  obtain ⟨σ5, eσ5⟩ : ∃ z, z = gg_s σ 21 ((((40 : Int32) * x3) + x4) + s0).toNatClampNeg (gg_g σ 21 ((((40 : Int32) * x1) + x2) + s0).toNatClampNeg) := ⟨_, rfl⟩
  rw [← eσ5] at hW
  have hw := hw σ5 eσ5
  refine lv_iinc (v := (x7 + (1 : Int32))) (lv' := [(7, .int (x7 + (1 : Int32))), (8, .int s0), (0, .ref (ad 0)), (1, .int x1), (2, .int x2), (3, .int x3), (4, .int x4), (5, .int x5), (6, .int x6)]) hx hb dX8_copy_176 hl (k := 8) rfl rfl (by decide) rfl (fun ls hl => ?_)
  refine lv_goto (tgt := 121) hx hb dX8_copy_179 (by decide) ?_
  exact hK121 x1 x2 x3 x4 x5 x6 (x7 + (1 : Int32)) σ5 _ _ _ hw hW hS (lv_sub hl [2, 3, 4, 5, 6, 7, 8, 0] rfl)
set_option maxHeartbeats 4000000 in
set_option maxRecDepth 100000 in
theorem mmk_copy_121 {p : Program} {l : Launch} {e : Env} {s : State} {m : MethodId} {args : Array Value} {below : List Frame} {meth : Method} {c : Code} {D : va_G} {cl : List vw_C} {E : ClassId × ClassId} {A : Nat → Prop} {ad : Nat → Nat} {Q : Int32 → gg_S → Prop}   (C0 : gg_C p s m args meth c RX8 cX8_copy 9 (some .int))  :
    ∀ n : Nat, ∀ (x1 : Int32) (x2 : Int32) (x3 : Int32) (x4 : Int32) (x5 : Int32) (x6 : Int32) (x7 : Int32) (σ : gg_S) (H : Heap) (locs : List Loc) (ls : Array Slot), mmw_copy_121 Q n x1 x2 x3 x4 x5 x6 x7 σ → mm_W D cl E A ad σ s H → va_S A s.heap H locs → lv_has ls 9 [(0, .ref (ad 0)), (1, .int x1), (2, .int x2), (3, .int x3), (4, .int x4), (5, .int x5), (6, .int x6), (7, .int x7)] → W p l e mmr_copy s m args below meth c H locs 0 0 (MQ below (va_Qi Q (fun u t => mm_W D cl E A ad u t t.heap) A) args s 0 0 A) (F0 m 121 ls []) := by
  obtain ⟨hx, hb, hml, hown, hts, hr, hlocks⟩ := id C0
  intro n
  induction n with
  | zero =>
    intro x1 x2 x3 x4 x5 x6 x7 σ H locs ls hw hW hS hl
    exact absurd hw (by unfold mmw_copy_121; exact id)
  | succ n ih =>
    intro x1 x2 x3 x4 x5 x6 x7 σ H locs ls hw hW hS hl
    unfold mmw_copy_121 at hw
    refine lv_iload hx hb dX8_copy_121 (lv_at hl 7 rfl) ?_
    refine lv_iload hx hb dX8_copy_123 (lv_at hl 5 rfl) ?_
    refine lv_icmp_ge (tgt := 182) hx hb dX8_copy_125 (by decide) (fun c7 => ?_) (fun c7 => ?_)
    · have hw := hw.1 c7
      refine lv_iload hx hb dX8_copy_182 (lv_at hl 5 rfl) ?_
      exact gg_iret (mm_mv D cl E A ad) C0 hW hS hw dX8_copy_184
    · have hw := hw.2 c7
      refine lv_iload hx hb dX8_copy_128 (lv_at hl 6 rfl) ?_
      refine lv_if_eq (tgt := 143) hx hb dX8_copy_130 (by decide) (fun c6 => ?_) (fun c6 => ?_)
      · have hw := hw.1 c6
        refine lv_iload hx hb dX8_copy_143 (lv_at hl 7 rfl) ?_
        exact mmk_copy_145  C0  (fun y0 y1 y2 y3 y4 y5 y6 τ H9 l9 s9 => ih y0 y1 y2 y3 y4 y5 y6 τ H9 l9 s9) x1 x2 x3 x4 x5 x6 x7 x7 σ _ _ _ hw hW hS (hl)
      · have hw := hw.2 c6
        refine lv_iload hx hb dX8_copy_133 (lv_at hl 5 rfl) ?_
        refine lv_iconst (v := (1 : Int32)) hx hb dX8_copy_135 (by decide) ?_
        refine lv_isub hx hb dX8_copy_136 ?_
        refine lv_iload hx hb dX8_copy_137 (lv_at hl 7 rfl) ?_
        refine lv_isub hx hb dX8_copy_139 ?_
        refine lv_goto (tgt := 145) hx hb dX8_copy_140 (by decide) ?_
        exact mmk_copy_145  C0  (fun y0 y1 y2 y3 y4 y5 y6 τ H9 l9 s9 => ih y0 y1 y2 y3 y4 y5 y6 τ H9 l9 s9) x1 x2 x3 x4 x5 x6 x7 ((x5 - (1 : Int32)) - x7) σ _ _ _ hw hW hS (hl)
set_option maxHeartbeats 4000000 in
set_option maxRecDepth 100000 in
theorem mmk_copy_116 {p : Program} {l : Launch} {e : Env} {s : State} {m : MethodId} {args : Array Value} {below : List Frame} {meth : Method} {c : Code} {D : va_G} {cl : List vw_C} {E : ClassId × ClassId} {A : Nat → Prop} {ad : Nat → Nat} {Q : Int32 → gg_S → Prop}   (C0 : gg_C p s m args meth c RX8 cX8_copy 9 (some .int))  :
    ∀ (x1 : Int32) (x2 : Int32) (x3 : Int32) (x4 : Int32) (x5 : Int32) (s0 : Int32) (σ : gg_S) (H : Heap) (locs : List Loc) (ls : Array Slot), mmw_copy_116 Q x1 x2 x3 x4 x5 s0 σ → mm_W D cl E A ad σ s H → va_S A s.heap H locs → lv_has ls 9 [(0, .ref (ad 0)), (1, .int x1), (2, .int x2), (3, .int x3), (4, .int x4), (5, .int x5)] → W p l e mmr_copy s m args below meth c H locs 0 0 (MQ below (va_Qi Q (fun u t => mm_W D cl E A ad u t t.heap) A) args s 0 0 A) (F0 m 116 ls [.int s0]) := by
  obtain ⟨hx, hb, hml, hown, hts, hr, hlocks⟩ := id C0
  intro x1 x2 x3 x4 x5 s0 σ H locs ls hw hW hS hl
  unfold mmw_copy_116 at hw
  refine lv_istore (lv' := [(6, .int s0), (0, .ref (ad 0)), (1, .int x1), (2, .int x2), (3, .int x3), (4, .int x4), (5, .int x5)]) hx hb dX8_copy_116 hl (by decide) rfl (fun ls hl => ?_)
  refine lv_iconst (v := (0 : Int32)) hx hb dX8_copy_118 (by decide) ?_
  refine lv_istore (lv' := [(7, .int (0 : Int32)), (6, .int s0), (0, .ref (ad 0)), (1, .int x1), (2, .int x2), (3, .int x3), (4, .int x4), (5, .int x5)]) hx hb dX8_copy_119 hl (by decide) rfl (fun ls hl => ?_)
  obtain ⟨n9, hw⟩ := hw
  exact mmk_copy_121  C0   n9 x1 x2 x3 x4 x5 s0 (0 : Int32) σ _ _ _ hw hW hS (lv_sub hl [2, 3, 4, 5, 6, 7, 1, 0] rfl)
set_option maxHeartbeats 4000000 in
set_option maxRecDepth 100000 in
theorem mmk_copy_115 {p : Program} {l : Launch} {e : Env} {s : State} {m : MethodId} {args : Array Value} {below : List Frame} {meth : Method} {c : Code} {D : va_G} {cl : List vw_C} {E : ClassId × ClassId} {A : Nat → Prop} {ad : Nat → Nat} {Q : Int32 → gg_S → Prop}   (C0 : gg_C p s m args meth c RX8 cX8_copy 9 (some .int))  :
    ∀ (x1 : Int32) (x2 : Int32) (x3 : Int32) (x4 : Int32) (x5 : Int32) (σ : gg_S) (H : Heap) (locs : List Loc) (ls : Array Slot), mmw_copy_115 Q x1 x2 x3 x4 x5 σ → mm_W D cl E A ad σ s H → va_S A s.heap H locs → lv_has ls 9 [(0, .ref (ad 0)), (1, .int x1), (2, .int x2), (3, .int x3), (4, .int x4), (5, .int x5)] → W p l e mmr_copy s m args below meth c H locs 0 0 (MQ below (va_Qi Q (fun u t => mm_W D cl E A ad u t t.heap) A) args s 0 0 A) (F0 m 115 ls []) := by
  obtain ⟨hx, hb, hml, hown, hts, hr, hlocks⟩ := id C0
  intro x1 x2 x3 x4 x5 σ H locs ls hw hW hS hl
  unfold mmw_copy_115 at hw
  refine lv_iconst (v := (0 : Int32)) hx hb dX8_copy_115 (by decide) ?_
  exact mmk_copy_116  C0   x1 x2 x3 x4 x5 (0 : Int32) σ _ _ _ hw hW hS (hl)
set_option maxHeartbeats 4000000 in
set_option maxRecDepth 100000 in
theorem mmt_copy (l : Launch) {D : va_G} {cl : List vw_C} {E : ClassId × ClassId} {A : Nat → Prop} {ad : Nat → Nat}  (a1 : Int32) (a2 : Int32) (a3 : Int32) (a4 : Int32) (a5 : Int32) (σ : gg_S) {Q : Int32 → gg_S → Prop} (hw : mmw_copy a1 a2 a3 a4 a5 σ Q) :
    Met l yX8_copy (ws_ yX8_copy cX8_copy 9 (some .int)) mmr_copy (va_Pc [.ref (ad 0), .int a1, .int a2, .int a3, .int a4, .int a5] (fun U => mm_W D cl E A ad σ U U.heap)) (va_Qi Q (fun u t => mm_W D cl E A ad u t t.heap) A) 0 0 A := by
  refine gg_entry (W0 := fun s H => mm_W D cl E A ad σ s H) (by decide) (Nat.le_of_ble_eq_true rfl) ?_
  intro p e s m args below meth c C0 hW ls hl
  have C0 : gg_C p s m args meth c RX8 cX8_copy 9 (some .int) := C0
  obtain ⟨hx, hb, hml, hown, hts, hr, hlocks⟩ := id C0
  have hl : lv_has ls 9 [(0, .ref (ad 0)), (1, .int a1), (2, .int a2), (3, .int a3), (4, .int a4), (5, .int a5)] := hl
  have hS : va_S A s.heap s.heap [] := va_S.rf
  unfold mmw_copy at hw
  refine lv_iload_n hx hb dX8_copy_0 rfl (lv_at hl 1 rfl) ?_
  refine mm_SI ⟨hx, hb, hml, hown, hts⟩ (mmt_isSheet l _ _ hw) (va_cwS 1 hts (lw_S q1681 q1682 q120 q1683) rfl rfl rfl cd_X8_isSheet.2 ⟨Nat.le_of_ble_eq_true rfl, Nat.le_of_ble_eq_true rfl⟩) hW hS rfl hl.1 rfl (Nat.le_of_ble_eq_true rfl) dX8_copy_1 (fun r2 σ1 H locs hw hW hS => ?_)
  obtain ⟨hz_r2, hw⟩ := hw
  refine lv_if_eq (tgt := 14) hx hb dX8_copy_4 (by decide) (fun c19 => ?_) (fun c19 => ?_)
  · have hw := hw.1 c19
    refine lv_bipush (v := (-2 : Int32)) hx hb dX8_copy_14 (by decide) ?_
    exact gg_iret (mm_mv D cl E A ad) C0 hW hS hw dX8_copy_16
  · have hw := hw.2 c19
    refine lv_iload_n hx hb dX8_copy_7 rfl (lv_at hl 3 rfl) ?_
    refine mm_SI ⟨hx, hb, hml, hown, hts⟩ (mmt_isSheet l _ _ hw) (va_cwS 1 hts (lw_S q1681 q1682 q120 q1683) rfl rfl rfl cd_X8_isSheet.2 ⟨Nat.le_of_ble_eq_true rfl, Nat.le_of_ble_eq_true rfl⟩) hW hS rfl hl.1 rfl (Nat.le_of_ble_eq_true rfl) dX8_copy_8 (fun r4 σ3 H locs hw hW hS => ?_)
    obtain ⟨hz_r4, hw⟩ := hw
    refine lv_if_ne (tgt := 17) hx hb dX8_copy_11 (by decide) (fun c18 => ?_) (fun c18 => ?_)
    · have hw := hw.2 c18
      refine lv_aload_n hx hb dX8_copy_17 rfl (lv_at hl 0 rfl) ?_
      refine mm_getr hx hb hts hown hW 43 18 (by decide) q1314 dX8_copy_18 ?_
      refine lv_iload_n hx hb dX8_copy_21 rfl (lv_at hl 1 rfl) ?_
      obtain ⟨hin, hw⟩ := hw
      refine mm_zld hx hb hW hin dX8_copy_22 ?_
      refine lv_if_eq (tgt := 35) hx hb dX8_copy_23 (by decide) (fun c17 => ?_) (fun c17 => ?_)
      · have hw := hw.1 c17
        refine lv_bipush (v := (-11 : Int32)) hx hb dX8_copy_35 (by decide) ?_
        exact gg_iret (mm_mv D cl E A ad) C0 hW hS hw dX8_copy_37
      · have hw := hw.2 c17
        refine lv_aload_n hx hb dX8_copy_26 rfl (lv_at hl 0 rfl) ?_
        refine mm_getr hx hb hts hown hW 43 18 (by decide) q1314 dX8_copy_27 ?_
        refine lv_iload_n hx hb dX8_copy_30 rfl (lv_at hl 3 rfl) ?_
        obtain ⟨hin, hw⟩ := hw
        refine mm_zld hx hb hW hin dX8_copy_31 ?_
        refine lv_if_ne (tgt := 38) hx hb dX8_copy_32 (by decide) (fun c16 => ?_) (fun c16 => ?_)
        · have hw := hw.2 c16
          refine lv_aload_n hx hb dX8_copy_38 rfl (lv_at hl 0 rfl) ?_
          refine mm_getr hx hb hts hown hW 44 19 (by decide) q1315 dX8_copy_39 ?_
          refine lv_iload_n hx hb dX8_copy_42 rfl (lv_at hl 1 rfl) ?_
          obtain ⟨hin, hw⟩ := hw
          refine mm_ald hx hb hW 18 (by decide) hin dX8_copy_43 ?_
          refine lv_aload_n hx hb dX8_copy_44 rfl (lv_at hl 0 rfl) ?_
          refine mm_getr hx hb hts hown hW 44 19 (by decide) q1315 dX8_copy_45 ?_
          refine lv_iload_n hx hb dX8_copy_48 rfl (lv_at hl 3 rfl) ?_
          obtain ⟨hin, hw⟩ := hw
          refine mm_ald hx hb hW 18 (by decide) hin dX8_copy_49 ?_
          refine lv_icmp_eq (tgt := 56) hx hb dX8_copy_50 (by decide) (fun c15 => ?_) (fun c15 => ?_)
          · have hw := hw.1 c15
            refine lv_iload hx hb dX8_copy_56 (lv_at hl 5 rfl) ?_
            refine lv_if_lt (tgt := 97) hx hb dX8_copy_58 (by decide) (fun c14 => ?_) (fun c14 => ?_)
            · have hw := hw.1 c14
              refine lv_bipush (v := (-12 : Int32)) hx hb dX8_copy_97 (by decide) ?_
              exact gg_iret (mm_mv D cl E A ad) C0 hW hS hw dX8_copy_99
            · have hw := hw.2 c14
              refine lv_iload_n hx hb dX8_copy_61 rfl (lv_at hl 2 rfl) ?_
              refine lv_if_lt (tgt := 97) hx hb dX8_copy_62 (by decide) (fun c13 => ?_) (fun c13 => ?_)
              · have hw := hw.1 c13
                refine lv_bipush (v := (-12 : Int32)) hx hb dX8_copy_97 (by decide) ?_
                exact gg_iret (mm_mv D cl E A ad) C0 hW hS hw dX8_copy_99
              · have hw := hw.2 c13
                refine lv_iload hx hb dX8_copy_65 (lv_at hl 4 rfl) ?_
                refine lv_if_lt (tgt := 97) hx hb dX8_copy_67 (by decide) (fun c12 => ?_) (fun c12 => ?_)
                · have hw := hw.1 c12
                  refine lv_bipush (v := (-12 : Int32)) hx hb dX8_copy_97 (by decide) ?_
                  exact gg_iret (mm_mv D cl E A ad) C0 hW hS hw dX8_copy_99
                · have hw := hw.2 c12
                  refine lv_iload_n hx hb dX8_copy_70 rfl (lv_at hl 2 rfl) ?_
                  refine lv_aload_n hx hb dX8_copy_71 rfl (lv_at hl 0 rfl) ?_
                  refine mm_getr hx hb hts hown hW 45 20 (by decide) q1316 dX8_copy_72 ?_
                  refine lv_iload_n hx hb dX8_copy_75 rfl (lv_at hl 1 rfl) ?_
                  obtain ⟨hin, hw⟩ := hw
                  refine mm_ald hx hb hW 19 (by decide) hin dX8_copy_76 ?_
                  refine lv_iload hx hb dX8_copy_77 (lv_at hl 5 rfl) ?_
                  refine lv_isub hx hb dX8_copy_79 ?_
                  refine lv_icmp_gt (tgt := 97) hx hb dX8_copy_80 (by decide) (fun c11 => ?_) (fun c11 => ?_)
                  · have hw := hw.1 c11
                    refine lv_bipush (v := (-12 : Int32)) hx hb dX8_copy_97 (by decide) ?_
                    exact gg_iret (mm_mv D cl E A ad) C0 hW hS hw dX8_copy_99
                  · have hw := hw.2 c11
                    refine lv_iload hx hb dX8_copy_83 (lv_at hl 4 rfl) ?_
                    refine lv_aload_n hx hb dX8_copy_85 rfl (lv_at hl 0 rfl) ?_
                    refine mm_getr hx hb hts hown hW 45 20 (by decide) q1316 dX8_copy_86 ?_
                    refine lv_iload_n hx hb dX8_copy_89 rfl (lv_at hl 3 rfl) ?_
                    obtain ⟨hin, hw⟩ := hw
                    refine mm_ald hx hb hW 19 (by decide) hin dX8_copy_90 ?_
                    refine lv_iload hx hb dX8_copy_91 (lv_at hl 5 rfl) ?_
                    refine lv_isub hx hb dX8_copy_93 ?_
                    refine lv_icmp_le (tgt := 100) hx hb dX8_copy_94 (by decide) (fun c10 => ?_) (fun c10 => ?_)
                    · have hw := hw.1 c10
                      refine lv_iload_n hx hb dX8_copy_100 rfl (lv_at hl 1 rfl) ?_
                      refine lv_iload_n hx hb dX8_copy_101 rfl (lv_at hl 3 rfl) ?_
                      refine lv_icmp_ne (tgt := 115) hx hb dX8_copy_102 (by decide) (fun c9 => ?_) (fun c9 => ?_)
                      · have hw := hw.2 c9
                        exact mmk_copy_115  C0   a1 a2 a3 a4 a5 σ3 _ _ _ hw hW hS (hl)
                      · have hw := hw.1 c9
                        refine lv_iload_n hx hb dX8_copy_105 rfl (lv_at hl 2 rfl) ?_
                        refine lv_iload hx hb dX8_copy_106 (lv_at hl 4 rfl) ?_
                        refine lv_icmp_ge (tgt := 115) hx hb dX8_copy_108 (by decide) (fun c8 => ?_) (fun c8 => ?_)
                        · have hw := hw.1 c8
                          exact mmk_copy_115  C0   a1 a2 a3 a4 a5 σ3 _ _ _ hw hW hS (hl)
                        · have hw := hw.2 c8
                          refine lv_iconst (v := (1 : Int32)) hx hb dX8_copy_111 (by decide) ?_
                          refine lv_goto (tgt := 116) hx hb dX8_copy_112 (by decide) ?_
                          exact mmk_copy_116  C0   a1 a2 a3 a4 a5 (1 : Int32) σ3 _ _ _ hw hW hS (hl)
                    · have hw := hw.2 c10
                      refine lv_bipush (v := (-12 : Int32)) hx hb dX8_copy_97 (by decide) ?_
                      exact gg_iret (mm_mv D cl E A ad) C0 hW hS hw dX8_copy_99
          · have hw := hw.2 c15
            refine lv_bipush (v := (-13 : Int32)) hx hb dX8_copy_53 (by decide) ?_
            exact gg_iret (mm_mv D cl E A ad) C0 hW hS hw dX8_copy_55
        · have hw := hw.1 c16
          refine lv_bipush (v := (-11 : Int32)) hx hb dX8_copy_35 (by decide) ?_
          exact gg_iret (mm_mv D cl E A ad) C0 hW hS hw dX8_copy_37
    · have hw := hw.1 c18
      refine lv_bipush (v := (-2 : Int32)) hx hb dX8_copy_14 (by decide) ?_
      exact gg_iret (mm_mv D cl E A ad) C0 hW hS hw dX8_copy_16
theorem cd_X8_gleaners : yX8_gleaners.cls = RX8 ∧ yX8_gleaners.cls ≠ "java/lang/invoke/MethodHandle" ∧ yX8_gleaners.cls ≠ "java/lang/invoke/VarHandle" ∧ (parseMethodDescriptor yX8_gleaners.desc).map (fun d => d.parameters.length) = some 4 := by decide +kernel
/-! GleanersForGapsModel.gleaners(IIII)I -/
def mmw_gleaners_149  (Q : Int32 → gg_S → Prop) (K75 : Int32 → Int32 → Int32 → Int32 → Int32 → gg_S → Prop) (x1 : Int32) (x3 : Int32) (x4 : Int32) (x6 : Int32) (s0 : Int32) (s1 : Int32) (σ : gg_S) : Prop :=
    K75 x1 x3 x4 (s0 + s1) (x6 + (1 : Int32)) σ
def mmw_gleaners_75  (Q : Int32 → gg_S → Prop)  : Nat → Int32 → Int32 → Int32 → Int32 → Int32 → gg_S → Prop
  | 0, _, _, _, _, _, _ => False
  | n + 1, x1, x3, x4, x5, x6, σ =>
    (((x4 ≤ x6) → Q x5 σ) ∧ (¬ (x4 ≤ x6) → (((x3 < 0) → Q (-12 : Int32) σ) ∧ (¬ (x3 < 0) → vp_in x1 4 ∧ (((x3 ≤ (((gg_g σ 20 x1.toNatClampNeg) - ((2 : Int32) * x6)) - (2 : Int32))) → vp_in ((((40 : Int32) * x1) + x3) + ((2 : Int32) * x6)) 160 ∧ vp_in (((((40 : Int32) * x1) + x3) + ((2 : Int32) * x6)) + (1 : Int32)) 160 ∧ (mmw_gleaner (gg_g σ 21 ((((40 : Int32) * x1) + x3) + ((2 : Int32) * x6)).toNatClampNeg) (gg_g σ 21 (((((40 : Int32) * x1) + x3) + ((2 : Int32) * x6)) + (1 : Int32)).toNatClampNeg) σ (fun r8 σ7 => (((r8 < 0) → mmw_gleaners_149 Q (fun y0 y1 y2 y3 y4 τ => mmw_gleaners_75 Q n y0 y1 y2 y3 y4 τ) x1 x3 x4 x6 x5 (0 : Int32) σ7) ∧ (¬ (r8 < 0) → mmw_gleaners_149 Q (fun y0 y1 y2 y3 y4 τ => mmw_gleaners_75 Q n y0 y1 y2 y3 y4 τ) x1 x3 x4 x6 x5 (1 : Int32) σ7))))) ∧ (¬ (x3 ≤ (((gg_g σ 20 x1.toNatClampNeg) - ((2 : Int32) * x6)) - (2 : Int32))) → Q (-12 : Int32) σ))))))
def mmw_gleaners_57  (Q : Int32 → gg_S → Prop)  (x1 : Int32) (x3 : Int32) (x4 : Int32) (σ : gg_S) : Prop :=
    vp_in x1 4 ∧ ((((gg_g σ 18 x1.toNatClampNeg) = 0) → Q (-11 : Int32) σ) ∧ (¬ ((gg_g σ 18 x1.toNatClampNeg) = 0) → ∃ k9, mmw_gleaners_75 Q k9 x1 x3 x4 (0 : Int32) (0 : Int32) σ))
def mmw_gleaners  (a1 : Int32) (a2 : Int32) (a3 : Int32) (a4 : Int32) (σ : gg_S) (Q : Int32 → gg_S → Prop) : Prop :=
    (mmw_isSheet a1 σ (fun r2 σ1 => (((r2 = 0) → Q (-2 : Int32) σ1) ∧ (¬ (r2 = 0) → (mmw_in ((a2).toInt64) (0 : Int64) (2 : Int64) σ1 (fun r4 σ3 => (((r4 = 0) → Q (-2 : Int32) σ3) ∧ (¬ (r4 = 0) → (mmw_in ((a4).toInt64) (0 : Int64) (5 : Int64) σ3 (fun r6 σ5 => (((r6 = 0) → Q (-2 : Int32) σ5) ∧ (¬ (r6 = 0) → vp_in a1 4 ∧ ((((gg_g σ5 18 a1.toNatClampNeg) = 0) → mmw_gleaners_57 Q a1 a3 a4 σ5) ∧ (¬ ((gg_g σ5 18 a1.toNatClampNeg) = 0) → vp_in a1 4 ∧ ((((gg_g σ5 19 a1.toNatClampNeg) = a2) → mmw_gleaners_57 Q a1 a3 a4 σ5) ∧ (¬ ((gg_g σ5 19 a1.toNatClampNeg) = a2) → Q (-13 : Int32) σ5))))))))))))))))
abbrev mmr_gleaners : Room := { frames := 2, cells := 0, slots := 0, locals := 47 }
set_option maxHeartbeats 4000000 in
set_option maxRecDepth 100000 in
theorem mmk_gleaners_149 {p : Program} {l : Launch} {e : Env} {s : State} {m : MethodId} {args : Array Value} {below : List Frame} {meth : Method} {c : Code} {D : va_G} {cl : List vw_C} {E : ClassId × ClassId} {A : Nat → Prop} {ad : Nat → Nat} {Q : Int32 → gg_S → Prop} {K75 : Int32 → Int32 → Int32 → Int32 → Int32 → gg_S → Prop}  (C0 : gg_C p s m args meth c RX8 cX8_gleaners 8 (some .int)) (hK75 : ∀ (x1 : Int32) (x3 : Int32) (x4 : Int32) (x5 : Int32) (x6 : Int32) (σ : gg_S) (H : Heap) (locs : List Loc) (ls : Array Slot), K75 x1 x3 x4 x5 x6 σ → mm_W D cl E A ad σ s H → va_S A s.heap H locs → lv_has ls 8 [(0, .ref (ad 0)), (1, .int x1), (3, .int x3), (4, .int x4), (5, .int x5), (6, .int x6)] → W p l e mmr_gleaners s m args below meth c H locs 0 0 (MQ below (va_Qi Q (fun u t => mm_W D cl E A ad u t t.heap) A) args s 0 0 A) (F0 m 75 ls [])) :
    ∀ (x1 : Int32) (x3 : Int32) (x4 : Int32) (x6 : Int32) (s0 : Int32) (s1 : Int32) (σ : gg_S) (H : Heap) (locs : List Loc) (ls : Array Slot), mmw_gleaners_149 Q K75 x1 x3 x4 x6 s0 s1 σ → mm_W D cl E A ad σ s H → va_S A s.heap H locs → lv_has ls 8 [(0, .ref (ad 0)), (1, .int x1), (3, .int x3), (4, .int x4), (6, .int x6)] → W p l e mmr_gleaners s m args below meth c H locs 0 0 (MQ below (va_Qi Q (fun u t => mm_W D cl E A ad u t t.heap) A) args s 0 0 A) (F0 m 149 ls [.int s1, .int s0]) := by
  obtain ⟨hx, hb, hml, hown, hts, hr, hlocks⟩ := id C0
  intro x1 x3 x4 x6 s0 s1 σ H locs ls hw hW hS hl
  unfold mmw_gleaners_149 at hw
  refine lv_iadd hx hb dX8_gleaners_149 ?_
  refine lv_istore (lv' := [(5, .int (s0 + s1)), (0, .ref (ad 0)), (1, .int x1), (3, .int x3), (4, .int x4), (6, .int x6)]) hx hb dX8_gleaners_150 hl (by decide) rfl (fun ls hl => ?_)
  refine lv_iinc (v := (x6 + (1 : Int32))) (lv' := [(6, .int (x6 + (1 : Int32))), (5, .int (s0 + s1)), (0, .ref (ad 0)), (1, .int x1), (3, .int x3), (4, .int x4)]) hx hb dX8_gleaners_152 hl (k := 5) rfl rfl (by decide) rfl (fun ls hl => ?_)
  refine lv_goto (tgt := 75) hx hb dX8_gleaners_155 (by decide) ?_
  exact hK75 x1 x3 x4 (s0 + s1) (x6 + (1 : Int32)) σ _ _ _ hw hW hS (lv_sub hl [2, 3, 4, 5, 1, 0] rfl)
set_option maxHeartbeats 4000000 in
set_option maxRecDepth 100000 in
theorem mmk_gleaners_75 {p : Program} {l : Launch} {e : Env} {s : State} {m : MethodId} {args : Array Value} {below : List Frame} {meth : Method} {c : Code} {D : va_G} {cl : List vw_C} {E : ClassId × ClassId} {A : Nat → Prop} {ad : Nat → Nat} {Q : Int32 → gg_S → Prop}   (C0 : gg_C p s m args meth c RX8 cX8_gleaners 8 (some .int))  :
    ∀ n : Nat, ∀ (x1 : Int32) (x3 : Int32) (x4 : Int32) (x5 : Int32) (x6 : Int32) (σ : gg_S) (H : Heap) (locs : List Loc) (ls : Array Slot), mmw_gleaners_75 Q n x1 x3 x4 x5 x6 σ → mm_W D cl E A ad σ s H → va_S A s.heap H locs → lv_has ls 8 [(0, .ref (ad 0)), (1, .int x1), (3, .int x3), (4, .int x4), (5, .int x5), (6, .int x6)] → W p l e mmr_gleaners s m args below meth c H locs 0 0 (MQ below (va_Qi Q (fun u t => mm_W D cl E A ad u t t.heap) A) args s 0 0 A) (F0 m 75 ls []) := by
  obtain ⟨hx, hb, hml, hown, hts, hr, hlocks⟩ := id C0
  intro n
  induction n with
  | zero =>
    intro x1 x3 x4 x5 x6 σ H locs ls hw hW hS hl
    exact absurd hw (by unfold mmw_gleaners_75; exact id)
  | succ n ih =>
    intro x1 x3 x4 x5 x6 σ H locs ls hw hW hS hl
    unfold mmw_gleaners_75 at hw
    refine lv_iload hx hb dX8_gleaners_75 (lv_at hl 5 rfl) ?_
    refine lv_iload hx hb dX8_gleaners_77 (lv_at hl 3 rfl) ?_
    refine lv_icmp_ge (tgt := 158) hx hb dX8_gleaners_79 (by decide) (fun c12 => ?_) (fun c12 => ?_)
    · have hw := hw.1 c12
      refine lv_iload hx hb dX8_gleaners_158 (lv_at hl 4 rfl) ?_
      exact gg_iret (mm_mv D cl E A ad) C0 hW hS hw dX8_gleaners_160
    · have hw := hw.2 c12
      refine lv_iload_n hx hb dX8_gleaners_82 rfl (lv_at hl 2 rfl) ?_
      refine lv_if_lt (tgt := 103) hx hb dX8_gleaners_83 (by decide) (fun c11 => ?_) (fun c11 => ?_)
      · have hw := hw.1 c11
        refine lv_bipush (v := (-12 : Int32)) hx hb dX8_gleaners_103 (by decide) ?_
        exact gg_iret (mm_mv D cl E A ad) C0 hW hS hw dX8_gleaners_105
      · have hw := hw.2 c11
        refine lv_iload_n hx hb dX8_gleaners_86 rfl (lv_at hl 2 rfl) ?_
        refine lv_aload_n hx hb dX8_gleaners_87 rfl (lv_at hl 0 rfl) ?_
        refine mm_getr hx hb hts hown hW 45 20 (by decide) q1316 dX8_gleaners_88 ?_
        refine lv_iload_n hx hb dX8_gleaners_91 rfl (lv_at hl 1 rfl) ?_
        obtain ⟨hin, hw⟩ := hw
        refine mm_ald hx hb hW 19 (by decide) hin dX8_gleaners_92 ?_
        refine lv_iconst (v := (2 : Int32)) hx hb dX8_gleaners_93 (by decide) ?_
        refine lv_iload hx hb dX8_gleaners_94 (lv_at hl 5 rfl) ?_
        refine lv_imul hx hb dX8_gleaners_96 ?_
        refine lv_isub hx hb dX8_gleaners_97 ?_
        refine lv_iconst (v := (2 : Int32)) hx hb dX8_gleaners_98 (by decide) ?_
        refine lv_isub hx hb dX8_gleaners_99 ?_
        refine lv_icmp_le (tgt := 106) hx hb dX8_gleaners_100 (by decide) (fun c10 => ?_) (fun c10 => ?_)
        · have hw := hw.1 c10
          refine lv_bipush (v := (40 : Int32)) hx hb dX8_gleaners_106 (by decide) ?_
          refine lv_iload_n hx hb dX8_gleaners_108 rfl (lv_at hl 1 rfl) ?_
          refine lv_imul hx hb dX8_gleaners_109 ?_
          refine lv_iload_n hx hb dX8_gleaners_110 rfl (lv_at hl 2 rfl) ?_
          refine lv_iadd hx hb dX8_gleaners_111 ?_
          refine lv_iconst (v := (2 : Int32)) hx hb dX8_gleaners_112 (by decide) ?_
          refine lv_iload hx hb dX8_gleaners_113 (lv_at hl 5 rfl) ?_
          refine lv_imul hx hb dX8_gleaners_115 ?_
          refine lv_iadd hx hb dX8_gleaners_116 ?_
          refine lv_istore (lv' := [(7, .int ((((40 : Int32) * x1) + x3) + ((2 : Int32) * x6))), (0, .ref (ad 0)), (1, .int x1), (3, .int x3), (4, .int x4), (5, .int x5), (6, .int x6)]) hx hb dX8_gleaners_117 hl (by decide) rfl (fun ls hl => ?_)
          refine lv_iload hx hb dX8_gleaners_119 (lv_at hl 5 rfl) ?_
          refine lv_aload_n hx hb dX8_gleaners_121 rfl (lv_at hl 1 rfl) ?_
          refine lv_aload_n hx hb dX8_gleaners_122 rfl (lv_at hl 1 rfl) ?_
          refine mm_getr hx hb hts hown hW 46 21 (by decide) q1317 dX8_gleaners_123 ?_
          refine lv_iload hx hb dX8_gleaners_126 (lv_at hl 0 rfl) ?_
          obtain ⟨hin, hw⟩ := hw
          refine mm_ald hx hb hW 20 (by decide) hin dX8_gleaners_128 ?_
          refine lv_aload_n hx hb dX8_gleaners_129 rfl (lv_at hl 1 rfl) ?_
          refine mm_getr hx hb hts hown hW 46 21 (by decide) q1317 dX8_gleaners_130 ?_
          refine lv_iload hx hb dX8_gleaners_133 (lv_at hl 0 rfl) ?_
          refine lv_iconst (v := (1 : Int32)) hx hb dX8_gleaners_135 (by decide) ?_
          refine lv_iadd hx hb dX8_gleaners_136 ?_
          obtain ⟨hin, hw⟩ := hw
          refine mm_ald hx hb hW 20 (by decide) hin dX8_gleaners_137 ?_
          refine mm_VI ⟨hx, hb, hml, hown, hts⟩ (mmt_gleaner l _ _ _ hw) (cwV 2 hts (lw_V q1744 q1552 q1553 q120 q1554) rfl rfl rfl cd_X8_gleaner ⟨Nat.le_of_ble_eq_true rfl, Nat.le_of_ble_eq_true rfl⟩) hW (mm_recv hW) hS rfl hl.1 rfl (Nat.le_of_ble_eq_true rfl) dX8_gleaners_138 (fun r8 σ7 H locs hw hW hS => ?_)
          refine lv_if_lt (tgt := 148) hx hb dX8_gleaners_141 (by decide) (fun c9 => ?_) (fun c9 => ?_)
          · have hw := hw.1 c9
            refine lv_iconst (v := (0 : Int32)) hx hb dX8_gleaners_148 (by decide) ?_
            exact mmk_gleaners_149  C0  (fun y0 y1 y2 y3 y4 τ H9 l9 s9 => ih y0 y1 y2 y3 y4 τ H9 l9 s9) x1 x3 x4 x6 x5 (0 : Int32) σ7 _ _ _ hw hW hS (lv_sub hl [1, 2, 3, 4, 6] rfl)
          · have hw := hw.2 c9
            refine lv_iconst (v := (1 : Int32)) hx hb dX8_gleaners_144 (by decide) ?_
            refine lv_goto (tgt := 149) hx hb dX8_gleaners_145 (by decide) ?_
            exact mmk_gleaners_149  C0  (fun y0 y1 y2 y3 y4 τ H9 l9 s9 => ih y0 y1 y2 y3 y4 τ H9 l9 s9) x1 x3 x4 x6 x5 (1 : Int32) σ7 _ _ _ hw hW hS (lv_sub hl [1, 2, 3, 4, 6] rfl)
        · have hw := hw.2 c10
          refine lv_bipush (v := (-12 : Int32)) hx hb dX8_gleaners_103 (by decide) ?_
          exact gg_iret (mm_mv D cl E A ad) C0 hW hS hw dX8_gleaners_105
set_option maxHeartbeats 4000000 in
set_option maxRecDepth 100000 in
theorem mmk_gleaners_57 {p : Program} {l : Launch} {e : Env} {s : State} {m : MethodId} {args : Array Value} {below : List Frame} {meth : Method} {c : Code} {D : va_G} {cl : List vw_C} {E : ClassId × ClassId} {A : Nat → Prop} {ad : Nat → Nat} {Q : Int32 → gg_S → Prop}   (C0 : gg_C p s m args meth c RX8 cX8_gleaners 8 (some .int))  :
    ∀ (x1 : Int32) (x3 : Int32) (x4 : Int32) (σ : gg_S) (H : Heap) (locs : List Loc) (ls : Array Slot), mmw_gleaners_57 Q x1 x3 x4 σ → mm_W D cl E A ad σ s H → va_S A s.heap H locs → lv_has ls 8 [(0, .ref (ad 0)), (1, .int x1), (3, .int x3), (4, .int x4)] → W p l e mmr_gleaners s m args below meth c H locs 0 0 (MQ below (va_Qi Q (fun u t => mm_W D cl E A ad u t t.heap) A) args s 0 0 A) (F0 m 57 ls []) := by
  obtain ⟨hx, hb, hml, hown, hts, hr, hlocks⟩ := id C0
  intro x1 x3 x4 σ H locs ls hw hW hS hl
  unfold mmw_gleaners_57 at hw
  refine lv_aload_n hx hb dX8_gleaners_57 rfl (lv_at hl 0 rfl) ?_
  refine mm_getr hx hb hts hown hW 43 18 (by decide) q1314 dX8_gleaners_58 ?_
  refine lv_iload_n hx hb dX8_gleaners_61 rfl (lv_at hl 1 rfl) ?_
  obtain ⟨hin, hw⟩ := hw
  refine mm_zld hx hb hW hin dX8_gleaners_62 ?_
  refine lv_if_ne (tgt := 69) hx hb dX8_gleaners_63 (by decide) (fun c13 => ?_) (fun c13 => ?_)
  · have hw := hw.2 c13
    refine lv_iconst (v := (0 : Int32)) hx hb dX8_gleaners_69 (by decide) ?_
    refine lv_istore (lv' := [(5, .int (0 : Int32)), (0, .ref (ad 0)), (1, .int x1), (3, .int x3), (4, .int x4)]) hx hb dX8_gleaners_70 hl (by decide) rfl (fun ls hl => ?_)
    refine lv_iconst (v := (0 : Int32)) hx hb dX8_gleaners_72 (by decide) ?_
    refine lv_istore (lv' := [(6, .int (0 : Int32)), (5, .int (0 : Int32)), (0, .ref (ad 0)), (1, .int x1), (3, .int x3), (4, .int x4)]) hx hb dX8_gleaners_73 hl (by decide) rfl (fun ls hl => ?_)
    obtain ⟨n9, hw⟩ := hw
    exact mmk_gleaners_75  C0   n9 x1 x3 x4 (0 : Int32) (0 : Int32) σ _ _ _ hw hW hS (lv_sub hl [2, 3, 4, 5, 1, 0] rfl)
  · have hw := hw.1 c13
    refine lv_bipush (v := (-11 : Int32)) hx hb dX8_gleaners_66 (by decide) ?_
    exact gg_iret (mm_mv D cl E A ad) C0 hW hS hw dX8_gleaners_68
set_option maxHeartbeats 4000000 in
set_option maxRecDepth 100000 in
theorem mmt_gleaners (l : Launch) {D : va_G} {cl : List vw_C} {E : ClassId × ClassId} {A : Nat → Prop} {ad : Nat → Nat}  (a1 : Int32) (a2 : Int32) (a3 : Int32) (a4 : Int32) (σ : gg_S) {Q : Int32 → gg_S → Prop} (hw : mmw_gleaners a1 a2 a3 a4 σ Q) :
    Met l yX8_gleaners (ws_ yX8_gleaners cX8_gleaners 8 (some .int)) mmr_gleaners (va_Pc [.ref (ad 0), .int a1, .int a2, .int a3, .int a4] (fun U => mm_W D cl E A ad σ U U.heap)) (va_Qi Q (fun u t => mm_W D cl E A ad u t t.heap) A) 0 0 A := by
  refine gg_entry (W0 := fun s H => mm_W D cl E A ad σ s H) (by decide) (Nat.le_of_ble_eq_true rfl) ?_
  intro p e s m args below meth c C0 hW ls hl
  have C0 : gg_C p s m args meth c RX8 cX8_gleaners 8 (some .int) := C0
  obtain ⟨hx, hb, hml, hown, hts, hr, hlocks⟩ := id C0
  have hl : lv_has ls 8 [(0, .ref (ad 0)), (1, .int a1), (2, .int a2), (3, .int a3), (4, .int a4)] := hl
  have hS : va_S A s.heap s.heap [] := va_S.rf
  unfold mmw_gleaners at hw
  refine lv_iload_n hx hb dX8_gleaners_0 rfl (lv_at hl 1 rfl) ?_
  refine mm_SI ⟨hx, hb, hml, hown, hts⟩ (mmt_isSheet l _ _ hw) (va_cwS 1 hts (lw_S q1681 q1682 q120 q1683) rfl rfl rfl cd_X8_isSheet.2 ⟨Nat.le_of_ble_eq_true rfl, Nat.le_of_ble_eq_true rfl⟩) hW hS rfl hl.1 rfl (Nat.le_of_ble_eq_true rfl) dX8_gleaners_1 (fun r2 σ1 H locs hw hW hS => ?_)
  obtain ⟨hz_r2, hw⟩ := hw
  refine lv_if_eq (tgt := 32) hx hb dX8_gleaners_4 (by decide) (fun c18 => ?_) (fun c18 => ?_)
  · have hw := hw.1 c18
    refine lv_bipush (v := (-2 : Int32)) hx hb dX8_gleaners_32 (by decide) ?_
    exact gg_iret (mm_mv D cl E A ad) C0 hW hS hw dX8_gleaners_34
  · have hw := hw.2 c18
    refine lv_iload_n hx hb dX8_gleaners_7 rfl (lv_at hl 2 rfl) ?_
    refine lv_i2l (v := (a2).toInt64) hx hb dX8_gleaners_8 rfl ?_
    refine lv_lconst (v := (0 : Int64)) hx hb dX8_gleaners_9 (by decide) ?_
    refine lv_ldc2 (own := RX8) (v := (2 : Int64)) hx hb hown (hts _ q1437) dX8_gleaners_10 ?_
    refine mm_SI ⟨hx, hb, hml, hown, hts⟩ (mmt_in l _ _ _ _ hw) (va_cwS 3 hts (lw_S q1422 q1423 q120 q1424) rfl rfl rfl cd_X8_in.2 ⟨Nat.le_of_ble_eq_true rfl, Nat.le_of_ble_eq_true rfl⟩) hW hS rfl hl.1 rfl (Nat.le_of_ble_eq_true rfl) dX8_gleaners_13 (fun r4 σ3 H locs hw hW hS => ?_)
    obtain ⟨hz_r4, hw⟩ := hw
    refine lv_if_eq (tgt := 32) hx hb dX8_gleaners_16 (by decide) (fun c17 => ?_) (fun c17 => ?_)
    · have hw := hw.1 c17
      refine lv_bipush (v := (-2 : Int32)) hx hb dX8_gleaners_32 (by decide) ?_
      exact gg_iret (mm_mv D cl E A ad) C0 hW hS hw dX8_gleaners_34
    · have hw := hw.2 c17
      refine lv_iload hx hb dX8_gleaners_19 (lv_at hl 4 rfl) ?_
      refine lv_i2l (v := (a4).toInt64) hx hb dX8_gleaners_21 rfl ?_
      refine lv_lconst (v := (0 : Int64)) hx hb dX8_gleaners_22 (by decide) ?_
      refine lv_ldc2 (own := RX8) (v := (5 : Int64)) hx hb hown (hts _ q1555) dX8_gleaners_23 ?_
      refine mm_SI ⟨hx, hb, hml, hown, hts⟩ (mmt_in l _ _ _ _ hw) (va_cwS 3 hts (lw_S q1422 q1423 q120 q1424) rfl rfl rfl cd_X8_in.2 ⟨Nat.le_of_ble_eq_true rfl, Nat.le_of_ble_eq_true rfl⟩) hW hS rfl hl.1 rfl (Nat.le_of_ble_eq_true rfl) dX8_gleaners_26 (fun r6 σ5 H locs hw hW hS => ?_)
      obtain ⟨hz_r6, hw⟩ := hw
      refine lv_if_ne (tgt := 35) hx hb dX8_gleaners_29 (by decide) (fun c16 => ?_) (fun c16 => ?_)
      · have hw := hw.2 c16
        refine lv_aload_n hx hb dX8_gleaners_35 rfl (lv_at hl 0 rfl) ?_
        refine mm_getr hx hb hts hown hW 43 18 (by decide) q1314 dX8_gleaners_36 ?_
        refine lv_iload_n hx hb dX8_gleaners_39 rfl (lv_at hl 1 rfl) ?_
        obtain ⟨hin, hw⟩ := hw
        refine mm_zld hx hb hW hin dX8_gleaners_40 ?_
        refine lv_if_eq (tgt := 57) hx hb dX8_gleaners_41 (by decide) (fun c15 => ?_) (fun c15 => ?_)
        · have hw := hw.1 c15
          exact mmk_gleaners_57  C0   a1 a3 a4 σ5 _ _ _ hw hW hS (lv_sub hl [0, 1, 3, 4] rfl)
        · have hw := hw.2 c15
          refine lv_aload_n hx hb dX8_gleaners_44 rfl (lv_at hl 0 rfl) ?_
          refine mm_getr hx hb hts hown hW 44 19 (by decide) q1315 dX8_gleaners_45 ?_
          refine lv_iload_n hx hb dX8_gleaners_48 rfl (lv_at hl 1 rfl) ?_
          obtain ⟨hin, hw⟩ := hw
          refine mm_ald hx hb hW 18 (by decide) hin dX8_gleaners_49 ?_
          refine lv_iload_n hx hb dX8_gleaners_50 rfl (lv_at hl 2 rfl) ?_
          refine lv_icmp_eq (tgt := 57) hx hb dX8_gleaners_51 (by decide) (fun c14 => ?_) (fun c14 => ?_)
          · have hw := hw.1 c14
            exact mmk_gleaners_57  C0   a1 a3 a4 σ5 _ _ _ hw hW hS (lv_sub hl [0, 1, 3, 4] rfl)
          · have hw := hw.2 c14
            refine lv_bipush (v := (-13 : Int32)) hx hb dX8_gleaners_54 (by decide) ?_
            exact gg_iret (mm_mv D cl E A ad) C0 hW hS hw dX8_gleaners_56
      · have hw := hw.1 c16
        refine lv_bipush (v := (-2 : Int32)) hx hb dX8_gleaners_32 (by decide) ?_
        exact gg_iret (mm_mv D cl E A ad) C0 hW hS hw dX8_gleaners_34
