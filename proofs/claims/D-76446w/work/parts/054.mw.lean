theorem cd_X8_aloneOf : yX8_aloneOf.cls = RX8 ∧ yX8_aloneOf.cls ≠ "java/lang/invoke/MethodHandle" ∧ yX8_aloneOf.cls ≠ "java/lang/invoke/VarHandle" ∧ (parseMethodDescriptor yX8_aloneOf.desc).map (fun d => d.parameters.length) = some 2 := by decide +kernel
/-! GleanersForGapsModel.aloneOf(II)I -/
def mmw_aloneOf_39  (Q : Int32 → gg_S → Prop) (K8 : Int32 → Int32 → Int32 → Int32 → Int32 → gg_S → Prop) (x1 : Int32) (x2 : Int32) (x5 : Int32) (x6 : Int32) (σ : gg_S) : Prop :=
    K8 x1 x2 x5 x6 (x5 + (1 : Int32)) σ
def mmw_aloneOf_8  (Q : Int32 → gg_S → Prop)  : Nat → Int32 → Int32 → Int32 → Int32 → Int32 → gg_S → Prop
  | 0, _, _, _, _, _, _ => False
  | n + 1, x1, x2, x3, x4, x5, σ =>
    ((((gg_g σ 0 12) ≤ x5) → (((x2 = (2 : Int32)) → Q x3 σ) ∧ (¬ (x2 = (2 : Int32)) → Q x4 σ))) ∧ (¬ ((gg_g σ 0 12) ≤ x5) → (mmw_triesOf x5 x1 (0 : Int32) σ (fun r3 σ2 => (((x3 = (-1 : Int32)) → mmw_aloneOf_39 Q (fun y0 y1 y2 y3 y4 τ => mmw_aloneOf_8 Q n y0 y1 y2 y3 y4 τ) x1 x2 x5 r3 σ2) ∧ (¬ (x3 = (-1 : Int32)) → (((r3 ≤ x4) → mmw_aloneOf_8 Q n x1 x2 x3 x4 (x5 + (1 : Int32)) σ2) ∧ (¬ (r3 ≤ x4) → mmw_aloneOf_39 Q (fun y0 y1 y2 y3 y4 τ => mmw_aloneOf_8 Q n y0 y1 y2 y3 y4 τ) x1 x2 x5 r3 σ2))))))))
def mmw_aloneOf  (a1 : Int32) (a2 : Int32) (σ : gg_S) (Q : Int32 → gg_S → Prop) : Prop :=
    ∃ k9, mmw_aloneOf_8 Q k9 a1 a2 (-1 : Int32) (-1 : Int32) (0 : Int32) σ
abbrev mmr_aloneOf : Room := { frames := 53, cells := 0, slots := 0, locals := 1232 }
set_option maxHeartbeats 4000000 in
set_option maxRecDepth 100000 in
theorem mmk_aloneOf_39 {p : Program} {l : Launch} {e : Env} {s : State} {m : MethodId} {args : Array Value} {below : List Frame} {meth : Method} {c : Code} {D : va_G} {cl : List vw_C} {E : ClassId × ClassId} {A : Nat → Prop} {ad : Nat → Nat} {Q : Int32 → gg_S → Prop} {K8 : Int32 → Int32 → Int32 → Int32 → Int32 → gg_S → Prop}  (C0 : gg_C p s m args meth c RX8 cX8_aloneOf 7 (some .int)) (hK8 : ∀ (x1 : Int32) (x2 : Int32) (x3 : Int32) (x4 : Int32) (x5 : Int32) (σ : gg_S) (H : Heap) (locs : List Loc) (ls : Array Slot), K8 x1 x2 x3 x4 x5 σ → mm_W D cl E A ad σ s H → va_S A s.heap H locs → lv_has ls 7 [(0, .ref (ad 0)), (1, .int x1), (2, .int x2), (3, .int x3), (4, .int x4), (5, .int x5)] → W p l e mmr_aloneOf s m args below meth c H locs 0 0 (MQ below (va_Qi Q (fun u t => mm_W D cl E A ad u t t.heap) A) args s 0 0 A) (F0 m 8 ls [])) :
    ∀ (x1 : Int32) (x2 : Int32) (x5 : Int32) (x6 : Int32) (σ : gg_S) (H : Heap) (locs : List Loc) (ls : Array Slot), mmw_aloneOf_39 Q K8 x1 x2 x5 x6 σ → mm_W D cl E A ad σ s H → va_S A s.heap H locs → lv_has ls 7 [(0, .ref (ad 0)), (1, .int x1), (2, .int x2), (5, .int x5), (6, .int x6)] → W p l e mmr_aloneOf s m args below meth c H locs 0 0 (MQ below (va_Qi Q (fun u t => mm_W D cl E A ad u t t.heap) A) args s 0 0 A) (F0 m 39 ls []) := by
  obtain ⟨hx, hb, hml, hown, hts, hr, hlocks⟩ := id C0
  intro x1 x2 x5 x6 σ H locs ls hw hW hS hl
  unfold mmw_aloneOf_39 at hw
  refine lv_iload hx hb dX8_aloneOf_39 (lv_at hl 3 rfl) ?_
  refine lv_istore_n (lv' := [(3, .int x5), (0, .ref (ad 0)), (1, .int x1), (2, .int x2), (5, .int x5), (6, .int x6)]) hx hb dX8_aloneOf_41 rfl hl (by decide) rfl (fun ls hl => ?_)
  refine lv_iload hx hb dX8_aloneOf_42 (lv_at hl 5 rfl) ?_
  refine lv_istore (lv' := [(4, .int x6), (3, .int x5), (0, .ref (ad 0)), (1, .int x1), (2, .int x2), (5, .int x5), (6, .int x6)]) hx hb dX8_aloneOf_44 hl (by decide) rfl (fun ls hl => ?_)
  refine lv_iinc (v := (x5 + (1 : Int32))) (lv' := [(5, .int (x5 + (1 : Int32))), (4, .int x6), (3, .int x5), (0, .ref (ad 0)), (1, .int x1), (2, .int x2), (6, .int x6)]) hx hb dX8_aloneOf_46 hl (k := 5) rfl rfl (by decide) rfl (fun ls hl => ?_)
  refine lv_goto (tgt := 8) hx hb dX8_aloneOf_49 (by decide) ?_
  exact hK8 x1 x2 x5 x6 (x5 + (1 : Int32)) σ _ _ _ hw hW hS (lv_sub hl [3, 4, 5, 2, 1, 0] rfl)
set_option maxHeartbeats 4000000 in
set_option maxRecDepth 100000 in
theorem mmk_aloneOf_8 {p : Program} {l : Launch} {e : Env} {s : State} {m : MethodId} {args : Array Value} {below : List Frame} {meth : Method} {c : Code} {D : va_G} {cl : List vw_C} {E : ClassId × ClassId} {A : Nat → Prop} {ad : Nat → Nat} {Q : Int32 → gg_S → Prop}   (C0 : gg_C p s m args meth c RX8 cX8_aloneOf 7 (some .int))  :
    ∀ n : Nat, ∀ (x1 : Int32) (x2 : Int32) (x3 : Int32) (x4 : Int32) (x5 : Int32) (σ : gg_S) (H : Heap) (locs : List Loc) (ls : Array Slot), mmw_aloneOf_8 Q n x1 x2 x3 x4 x5 σ → mm_W D cl E A ad σ s H → va_S A s.heap H locs → lv_has ls 7 [(0, .ref (ad 0)), (1, .int x1), (2, .int x2), (3, .int x3), (4, .int x4), (5, .int x5)] → W p l e mmr_aloneOf s m args below meth c H locs 0 0 (MQ below (va_Qi Q (fun u t => mm_W D cl E A ad u t t.heap) A) args s 0 0 A) (F0 m 8 ls []) := by
  obtain ⟨hx, hb, hml, hown, hts, hr, hlocks⟩ := id C0
  intro n
  induction n with
  | zero =>
    intro x1 x2 x3 x4 x5 σ H locs ls hw hW hS hl
    exact absurd hw (by unfold mmw_aloneOf_8; exact id)
  | succ n ih =>
    intro x1 x2 x3 x4 x5 σ H locs ls hw hW hS hl
    unfold mmw_aloneOf_8 at hw
    refine lv_iload hx hb dX8_aloneOf_8 (lv_at hl 5 rfl) ?_
    refine lv_aload_n hx hb dX8_aloneOf_10 rfl (lv_at hl 0 rfl) ?_
    refine mm_geti hx hb hts hown hW 12 (by decide) q1283 dX8_aloneOf_11 ?_
    refine lv_icmp_ge (tgt := 52) hx hb dX8_aloneOf_14 (by decide) (fun c6 => ?_) (fun c6 => ?_)
    · have hw := hw.1 c6
      refine lv_iload_n hx hb dX8_aloneOf_52 rfl (lv_at hl 2 rfl) ?_
      refine lv_iconst (v := (2 : Int32)) hx hb dX8_aloneOf_53 (by decide) ?_
      refine lv_icmp_ne (tgt := 61) hx hb dX8_aloneOf_54 (by decide) (fun c1 => ?_) (fun c1 => ?_)
      · have hw := hw.2 c1
        refine lv_iload hx hb dX8_aloneOf_61 (lv_at hl 4 rfl) ?_
        exact gg_iret (mm_mv D cl E A ad) C0 hW hS hw dX8_aloneOf_63
      · have hw := hw.1 c1
        refine lv_iload_n hx hb dX8_aloneOf_57 rfl (lv_at hl 3 rfl) ?_
        refine lv_goto (tgt := 63) hx hb dX8_aloneOf_58 (by decide) ?_
        exact gg_iret (mm_mv D cl E A ad) C0 hW hS hw dX8_aloneOf_63
    · have hw := hw.2 c6
      refine lv_aload_n hx hb dX8_aloneOf_17 rfl (lv_at hl 0 rfl) ?_
      refine lv_iload hx hb dX8_aloneOf_18 (lv_at hl 5 rfl) ?_
      refine lv_iload_n hx hb dX8_aloneOf_20 rfl (lv_at hl 1 rfl) ?_
      refine lv_iconst (v := (0 : Int32)) hx hb dX8_aloneOf_21 (by decide) ?_
      refine mm_VI ⟨hx, hb, hml, hown, hts⟩ (mmt_triesOf l _ _ _ _ hw) (cwV 3 hts (lw_V q1619 q1621 qs91 q120 q1622) rfl rfl rfl cd_X8_triesOf ⟨Nat.le_of_ble_eq_true rfl, Nat.le_of_ble_eq_true rfl⟩) hW (mm_recv hW) hS rfl hl.1 rfl (Nat.le_of_ble_eq_true rfl) dX8_aloneOf_22 (fun r3 σ2 H locs hw hW hS => ?_)
      refine lv_istore (lv' := [(6, .int r3), (0, .ref (ad 0)), (1, .int x1), (2, .int x2), (3, .int x3), (4, .int x4), (5, .int x5)]) hx hb dX8_aloneOf_25 hl (by decide) rfl (fun ls hl => ?_)
      refine lv_iload_n hx hb dX8_aloneOf_27 rfl (lv_at hl 4 rfl) ?_
      refine lv_iconst (v := (-1 : Int32)) hx hb dX8_aloneOf_28 (by decide) ?_
      refine lv_icmp_eq (tgt := 39) hx hb dX8_aloneOf_29 (by decide) (fun c5 => ?_) (fun c5 => ?_)
      · have hw := hw.1 c5
        exact mmk_aloneOf_39  C0  (fun y0 y1 y2 y3 y4 τ H9 l9 s9 => ih y0 y1 y2 y3 y4 τ H9 l9 s9) x1 x2 x5 r3 σ2 _ _ _ hw hW hS (lv_sub hl [1, 2, 3, 6, 0] rfl)
      · have hw := hw.2 c5
        refine lv_iload hx hb dX8_aloneOf_32 (lv_at hl 0 rfl) ?_
        refine lv_iload hx hb dX8_aloneOf_34 (lv_at hl 5 rfl) ?_
        refine lv_icmp_le (tgt := 46) hx hb dX8_aloneOf_36 (by decide) (fun c4 => ?_) (fun c4 => ?_)
        · have hw := hw.1 c4
          refine lv_iinc (v := (x5 + (1 : Int32))) (lv' := [(5, .int (x5 + (1 : Int32))), (6, .int r3), (0, .ref (ad 0)), (1, .int x1), (2, .int x2), (3, .int x3), (4, .int x4)]) hx hb dX8_aloneOf_46 hl (k := 6) rfl rfl (by decide) rfl (fun ls hl => ?_)
          refine lv_goto (tgt := 8) hx hb dX8_aloneOf_49 (by decide) ?_
          exact ih x1 x2 x3 x4 (x5 + (1 : Int32)) σ2 _ _ _ hw hW hS (lv_sub hl [2, 3, 4, 5, 6, 0] rfl)
        · have hw := hw.2 c4
          exact mmk_aloneOf_39  C0  (fun y0 y1 y2 y3 y4 τ H9 l9 s9 => ih y0 y1 y2 y3 y4 τ H9 l9 s9) x1 x2 x5 r3 σ2 _ _ _ hw hW hS (lv_sub hl [1, 2, 3, 6, 0] rfl)
set_option maxHeartbeats 4000000 in
set_option maxRecDepth 100000 in
theorem mmt_aloneOf (l : Launch) {D : va_G} {cl : List vw_C} {E : ClassId × ClassId} {A : Nat → Prop} {ad : Nat → Nat}  (a1 : Int32) (a2 : Int32) (σ : gg_S) {Q : Int32 → gg_S → Prop} (hw : mmw_aloneOf a1 a2 σ Q) :
    Met l yX8_aloneOf (ws_ yX8_aloneOf cX8_aloneOf 7 (some .int)) mmr_aloneOf (va_Pc [.ref (ad 0), .int a1, .int a2] (fun U => mm_W D cl E A ad σ U U.heap)) (va_Qi Q (fun u t => mm_W D cl E A ad u t t.heap) A) 0 0 A := by
  refine gg_entry (W0 := fun s H => mm_W D cl E A ad σ s H) (by decide) (Nat.le_of_ble_eq_true rfl) ?_
  intro p e s m args below meth c C0 hW ls hl
  have C0 : gg_C p s m args meth c RX8 cX8_aloneOf 7 (some .int) := C0
  obtain ⟨hx, hb, hml, hown, hts, hr, hlocks⟩ := id C0
  have hl : lv_has ls 7 [(0, .ref (ad 0)), (1, .int a1), (2, .int a2)] := hl
  have hS : va_S A s.heap s.heap [] := va_S.rf
  unfold mmw_aloneOf at hw
  refine lv_iconst (v := (-1 : Int32)) hx hb dX8_aloneOf_0 (by decide) ?_
  refine lv_istore_n (lv' := [(3, .int (-1 : Int32)), (0, .ref (ad 0)), (1, .int a1), (2, .int a2)]) hx hb dX8_aloneOf_1 rfl hl (by decide) rfl (fun ls hl => ?_)
  refine lv_iconst (v := (-1 : Int32)) hx hb dX8_aloneOf_2 (by decide) ?_
  refine lv_istore (lv' := [(4, .int (-1 : Int32)), (3, .int (-1 : Int32)), (0, .ref (ad 0)), (1, .int a1), (2, .int a2)]) hx hb dX8_aloneOf_3 hl (by decide) rfl (fun ls hl => ?_)
  refine lv_iconst (v := (0 : Int32)) hx hb dX8_aloneOf_5 (by decide) ?_
  refine lv_istore (lv' := [(5, .int (0 : Int32)), (4, .int (-1 : Int32)), (3, .int (-1 : Int32)), (0, .ref (ad 0)), (1, .int a1), (2, .int a2)]) hx hb dX8_aloneOf_6 hl (by decide) rfl (fun ls hl => ?_)
  obtain ⟨n9, hw⟩ := hw
  exact mmk_aloneOf_8  C0   n9 a1 a2 (-1 : Int32) (-1 : Int32) (0 : Int32) σ _ _ _ hw hW hS (lv_sub hl [3, 4, 5, 2, 1, 0] rfl)
theorem cd_X8_bareOf : yX8_bareOf.cls = RX8 ∧ yX8_bareOf.cls ≠ "java/lang/invoke/MethodHandle" ∧ yX8_bareOf.cls ≠ "java/lang/invoke/VarHandle" ∧ (parseMethodDescriptor yX8_bareOf.desc).map (fun d => d.parameters.length) = some 1 := by decide +kernel
/-! GleanersForGapsModel.bareOf(I)I -/
def mmw_bareOf_32  (Q : Int32 → gg_S → Prop)  (x2 : Int32) (σ : gg_S) : Prop :=
    (mmw_laysBack σ (fun σ2 => (((x2 ≤ (20 : Int32)) → Q x2 σ2) ∧ (¬ (x2 ≤ (20 : Int32)) → Q (-1 : Int32) σ2))))
def mmw_bareOf_6  (Q : Int32 → gg_S → Prop)  : Nat → Int32 → Int32 → gg_S → Prop
  | 0, _, _, _ => False
  | n + 1, x1, x2, σ =>
    ((((20 : Int32) < x2) → mmw_bareOf_32 Q x2 σ) ∧ (¬ ((20 : Int32) < x2) → (mmw_leftOf x1 σ (fun r5 σ4 => (((r5 = 0) → mmw_bareOf_32 Q x2 σ4) ∧ (¬ (r5 = 0) → (mmw_gleanNights x1 (1 : Int32) σ4 (fun σ6 => mmw_bareOf_6 Q n x1 (x2 + (1 : Int32)) σ6))))))))
def mmw_bareOf  (a1 : Int32) (σ : gg_S) (Q : Int32 → gg_S → Prop) : Prop :=
    (mmw_laysAside σ (fun σ1 => ∃ k9, mmw_bareOf_6 Q k9 a1 (0 : Int32) σ1))
abbrev mmr_bareOf : Room := { frames := 53, cells := 0, slots := 0, locals := 1231 }
set_option maxHeartbeats 4000000 in
set_option maxRecDepth 100000 in
theorem mmk_bareOf_32 {p : Program} {l : Launch} {e : Env} {s : State} {m : MethodId} {args : Array Value} {below : List Frame} {meth : Method} {c : Code} {D : va_G} {cl : List vw_C} {E : ClassId × ClassId} {A : Nat → Prop} {ad : Nat → Nat} {Q : Int32 → gg_S → Prop}   (C0 : gg_C p s m args meth c RX8 cX8_bareOf 3 (some .int))  :
    ∀ (x2 : Int32) (σ : gg_S) (H : Heap) (locs : List Loc) (ls : Array Slot), mmw_bareOf_32 Q x2 σ → mm_W D cl E A ad σ s H → va_S A s.heap H locs → lv_has ls 3 [(0, .ref (ad 0)), (2, .int x2)] → W p l e mmr_bareOf s m args below meth c H locs 0 0 (MQ below (va_Qi Q (fun u t => mm_W D cl E A ad u t t.heap) A) args s 0 0 A) (F0 m 32 ls []) := by
  obtain ⟨hx, hb, hml, hown, hts, hr, hlocks⟩ := id C0
  intro x2 σ H locs ls hw hW hS hl
  unfold mmw_bareOf_32 at hw
  refine lv_aload_n hx hb dX8_bareOf_32 rfl (lv_at hl 0 rfl) ?_
  refine mm_VV ⟨hx, hb, hml, hown, hts⟩ (mmt_laysBack l _ hw) (cwV 0 hts (lw_V q1627 q1629 qs93 q120 q1630) rfl rfl rfl cd_X8_laysBack ⟨Nat.le_of_ble_eq_true rfl, Nat.le_of_ble_eq_true rfl⟩) hW (mm_recv hW) hS rfl hl.1 rfl (Nat.le_of_ble_eq_true rfl) dX8_bareOf_33 (fun σ2 H locs hw hW hS => ?_)
  refine lv_iload_n hx hb dX8_bareOf_36 rfl (lv_at hl 1 rfl) ?_
  refine lv_bipush (v := (20 : Int32)) hx hb dX8_bareOf_37 (by decide) ?_
  refine lv_icmp_le (tgt := 46) hx hb dX8_bareOf_39 (by decide) (fun c3 => ?_) (fun c3 => ?_)
  · have hw := hw.1 c3
    refine lv_iload_n hx hb dX8_bareOf_46 rfl (lv_at hl 1 rfl) ?_
    exact gg_iret (mm_mv D cl E A ad) C0 hW hS hw dX8_bareOf_47
  · have hw := hw.2 c3
    refine lv_iconst (v := (-1 : Int32)) hx hb dX8_bareOf_42 (by decide) ?_
    refine lv_goto (tgt := 47) hx hb dX8_bareOf_43 (by decide) ?_
    exact gg_iret (mm_mv D cl E A ad) C0 hW hS hw dX8_bareOf_47
set_option maxHeartbeats 4000000 in
set_option maxRecDepth 100000 in
theorem mmk_bareOf_6 {p : Program} {l : Launch} {e : Env} {s : State} {m : MethodId} {args : Array Value} {below : List Frame} {meth : Method} {c : Code} {D : va_G} {cl : List vw_C} {E : ClassId × ClassId} {A : Nat → Prop} {ad : Nat → Nat} {Q : Int32 → gg_S → Prop}   (C0 : gg_C p s m args meth c RX8 cX8_bareOf 3 (some .int))  :
    ∀ n : Nat, ∀ (x1 : Int32) (x2 : Int32) (σ : gg_S) (H : Heap) (locs : List Loc) (ls : Array Slot), mmw_bareOf_6 Q n x1 x2 σ → mm_W D cl E A ad σ s H → va_S A s.heap H locs → lv_has ls 3 [(0, .ref (ad 0)), (1, .int x1), (2, .int x2)] → W p l e mmr_bareOf s m args below meth c H locs 0 0 (MQ below (va_Qi Q (fun u t => mm_W D cl E A ad u t t.heap) A) args s 0 0 A) (F0 m 6 ls []) := by
  obtain ⟨hx, hb, hml, hown, hts, hr, hlocks⟩ := id C0
  intro n
  induction n with
  | zero =>
    intro x1 x2 σ H locs ls hw hW hS hl
    exact absurd hw (by unfold mmw_bareOf_6; exact id)
  | succ n ih =>
    intro x1 x2 σ H locs ls hw hW hS hl
    unfold mmw_bareOf_6 at hw
    refine lv_iload_n hx hb dX8_bareOf_6 rfl (lv_at hl 2 rfl) ?_
    refine lv_bipush (v := (20 : Int32)) hx hb dX8_bareOf_7 (by decide) ?_
    refine lv_icmp_gt (tgt := 32) hx hb dX8_bareOf_9 (by decide) (fun c8 => ?_) (fun c8 => ?_)
    · have hw := hw.1 c8
      exact mmk_bareOf_32  C0   x2 σ _ _ _ hw hW hS (lv_sub hl [0, 2] rfl)
    · have hw := hw.2 c8
      refine lv_aload_n hx hb dX8_bareOf_12 rfl (lv_at hl 0 rfl) ?_
      refine lv_iload_n hx hb dX8_bareOf_13 rfl (lv_at hl 1 rfl) ?_
      refine mm_VI ⟨hx, hb, hml, hown, hts⟩ (mmt_leftOf l _ _ hw) (cwV 1 hts (lw_V q1426 q1428 qs60 q120 q1429) rfl rfl rfl cd_X8_leftOf ⟨Nat.le_of_ble_eq_true rfl, Nat.le_of_ble_eq_true rfl⟩) hW (mm_recv hW) hS rfl hl.1 rfl (Nat.le_of_ble_eq_true rfl) dX8_bareOf_14 (fun r5 σ4 H locs hw hW hS => ?_)
      refine lv_if_eq (tgt := 32) hx hb dX8_bareOf_17 (by decide) (fun c7 => ?_) (fun c7 => ?_)
      · have hw := hw.1 c7
        exact mmk_bareOf_32  C0   x2 σ4 _ _ _ hw hW hS (lv_sub hl [0, 2] rfl)
      · have hw := hw.2 c7
        refine lv_aload_n hx hb dX8_bareOf_20 rfl (lv_at hl 0 rfl) ?_
        refine lv_iload_n hx hb dX8_bareOf_21 rfl (lv_at hl 1 rfl) ?_
        refine lv_iconst (v := (1 : Int32)) hx hb dX8_bareOf_22 (by decide) ?_
        refine mm_VV ⟨hx, hb, hml, hown, hts⟩ (mmt_gleanNights l _ _ _ hw) (cwV 2 hts (lw_V q1636 q1638 qs94 q120 q1639) rfl rfl rfl cd_X8_gleanNights ⟨Nat.le_of_ble_eq_true rfl, Nat.le_of_ble_eq_true rfl⟩) hW (mm_recv hW) hS rfl hl.1 rfl (Nat.le_of_ble_eq_true rfl) dX8_bareOf_23 (fun σ6 H locs hw hW hS => ?_)
        refine lv_iinc (v := (x2 + (1 : Int32))) (lv' := [(2, .int (x2 + (1 : Int32))), (0, .ref (ad 0)), (1, .int x1)]) hx hb dX8_bareOf_26 hl (k := 2) rfl rfl (by decide) rfl (fun ls hl => ?_)
        refine lv_goto (tgt := 6) hx hb dX8_bareOf_29 (by decide) ?_
        exact ih x1 (x2 + (1 : Int32)) σ6 _ _ _ hw hW hS (lv_sub hl [1, 2, 0] rfl)
set_option maxHeartbeats 4000000 in
set_option maxRecDepth 100000 in
theorem mmt_bareOf (l : Launch) {D : va_G} {cl : List vw_C} {E : ClassId × ClassId} {A : Nat → Prop} {ad : Nat → Nat}  (a1 : Int32) (σ : gg_S) {Q : Int32 → gg_S → Prop} (hw : mmw_bareOf a1 σ Q) :
    Met l yX8_bareOf (ws_ yX8_bareOf cX8_bareOf 3 (some .int)) mmr_bareOf (va_Pc [.ref (ad 0), .int a1] (fun U => mm_W D cl E A ad σ U U.heap)) (va_Qi Q (fun u t => mm_W D cl E A ad u t t.heap) A) 0 0 A := by
  refine gg_entry (W0 := fun s H => mm_W D cl E A ad σ s H) (by decide) (Nat.le_of_ble_eq_true rfl) ?_
  intro p e s m args below meth c C0 hW ls hl
  have C0 : gg_C p s m args meth c RX8 cX8_bareOf 3 (some .int) := C0
  obtain ⟨hx, hb, hml, hown, hts, hr, hlocks⟩ := id C0
  have hl : lv_has ls 3 [(0, .ref (ad 0)), (1, .int a1)] := hl
  have hS : va_S A s.heap s.heap [] := va_S.rf
  unfold mmw_bareOf at hw
  refine lv_aload_n hx hb dX8_bareOf_0 rfl (lv_at hl 0 rfl) ?_
  refine mm_VV ⟨hx, hb, hml, hown, hts⟩ (mmt_laysAside l _ hw) (cwV 0 hts (lw_V q1623 q1625 qs92 q120 q1626) rfl rfl rfl cd_X8_laysAside ⟨Nat.le_of_ble_eq_true rfl, Nat.le_of_ble_eq_true rfl⟩) hW (mm_recv hW) hS rfl hl.1 rfl (Nat.le_of_ble_eq_true rfl) dX8_bareOf_1 (fun σ1 H locs hw hW hS => ?_)
  refine lv_iconst (v := (0 : Int32)) hx hb dX8_bareOf_4 (by decide) ?_
  refine lv_istore_n (lv' := [(2, .int (0 : Int32)), (0, .ref (ad 0)), (1, .int a1)]) hx hb dX8_bareOf_5 rfl hl (by decide) rfl (fun ls hl => ?_)
  obtain ⟨n9, hw⟩ := hw
  exact mmk_bareOf_6  C0   n9 a1 (0 : Int32) σ1 _ _ _ hw hW hS (lv_sub hl [1, 2, 0] rfl)
theorem cd_X8_best : yX8_best.cls = RX8 ∧ yX8_best.cls ≠ "java/lang/invoke/MethodHandle" ∧ yX8_best.cls ≠ "java/lang/invoke/VarHandle" ∧ (parseMethodDescriptor yX8_best.desc).map (fun d => d.parameters.length) = some 2 := by decide +kernel
/-! GleanersForGapsModel.best(II)I -/
def mmw_best  (a1 : Int32) (a2 : Int32) (σ : gg_S) (Q : Int32 → gg_S → Prop) : Prop :=
    (mmw_isRow a1 σ (fun r2 σ1 => (((r2 = 0) → Q (-1000 : Int32) σ1) ∧ (¬ (r2 = 0) → (mmw_in ((a2).toInt64) (0 : Int64) (4 : Int64) σ1 (fun r4 σ3 => (((r4 = 0) → Q (-1000 : Int32) σ3) ∧ (¬ (r4 = 0) → (((a2 ≤ (1 : Int32)) → (∀ σ5 : gg_S, σ5 = gg_s σ3 0 35 (-1 : Int32) → (∀ σ6 : gg_S, σ6 = gg_s σ5 0 36 (0 : Int32) → (mmw_g_orders 6 a1 (-1 : Int32) (0 : Int32) (0 : Int32) (0 : Int32) σ6 (fun σ7 => (((a2 = 0) → Q (gg_g σ7 0 35) σ7) ∧ (¬ (a2 = 0) → Q (-(gg_g σ7 0 36)) σ7))))))) ∧ (¬ (a2 ≤ (1 : Int32)) → (((a2 = (4 : Int32)) → (mmw_bareOf a1 σ3 (fun r12 σ11 => Q r12 σ11))) ∧ (¬ (a2 = (4 : Int32)) → (mmw_aloneOf a1 a2 σ3 (fun r10 σ9 => Q r10 σ9))))))))))))))
abbrev mmr_best : Room := { frames := 59, cells := 0, slots := 0, locals := 1417 }
set_option maxHeartbeats 4000000 in
set_option maxRecDepth 100000 in
theorem mmt_best (l : Launch) {D : va_G} {cl : List vw_C} {E : ClassId × ClassId} {A : Nat → Prop} {ad : Nat → Nat}  (a1 : Int32) (a2 : Int32) (σ : gg_S) {Q : Int32 → gg_S → Prop} (hw : mmw_best a1 a2 σ Q) :
    Met l yX8_best (ws_ yX8_best cX8_best 3 (some .int)) mmr_best (va_Pc [.ref (ad 0), .int a1, .int a2] (fun U => mm_W D cl E A ad σ U U.heap)) (va_Qi Q (fun u t => mm_W D cl E A ad u t t.heap) A) 0 0 A := by
  refine gg_entry (W0 := fun s H => mm_W D cl E A ad σ s H) (by decide) (Nat.le_of_ble_eq_true rfl) ?_
  intro p e s m args below meth c C0 hW ls hl
  have C0 : gg_C p s m args meth c RX8 cX8_best 3 (some .int) := C0
  obtain ⟨hx, hb, hml, hown, hts, hr, hlocks⟩ := id C0
  have hl : lv_has ls 3 [(0, .ref (ad 0)), (1, .int a1), (2, .int a2)] := hl
  have hS : va_S A s.heap s.heap [] := va_S.rf
  unfold mmw_best at hw
  refine lv_iload_n hx hb dX8_best_0 rfl (lv_at hl 1 rfl) ?_
  refine mm_SI ⟨hx, hb, hml, hown, hts⟩ (mmt_isRow l _ _ hw) (va_cwS 1 hts (lw_S q1418 q1419 q120 q1420) rfl rfl rfl cd_X8_isRow.2 ⟨Nat.le_of_ble_eq_true rfl, Nat.le_of_ble_eq_true rfl⟩) hW hS rfl hl.1 rfl (Nat.le_of_ble_eq_true rfl) dX8_best_1 (fun r2 σ1 H locs hw hW hS => ?_)
  obtain ⟨hz_r2, hw⟩ := hw
  refine lv_if_eq (tgt := 19) hx hb dX8_best_4 (by decide) (fun c16 => ?_) (fun c16 => ?_)
  · have hw := hw.1 c16
    refine lv_sipush (v := (-1000 : Int32)) hx hb dX8_best_19 (by decide) ?_
    exact gg_iret (mm_mv D cl E A ad) C0 hW hS hw dX8_best_22
  · have hw := hw.2 c16
    refine lv_iload_n hx hb dX8_best_7 rfl (lv_at hl 2 rfl) ?_
    refine lv_i2l (v := (a2).toInt64) hx hb dX8_best_8 rfl ?_
    refine lv_lconst (v := (0 : Int64)) hx hb dX8_best_9 (by decide) ?_
    refine lv_ldc2 (own := RX8) (v := (4 : Int64)) hx hb hown (hts _ q1652) dX8_best_10 ?_
    refine mm_SI ⟨hx, hb, hml, hown, hts⟩ (mmt_in l _ _ _ _ hw) (va_cwS 3 hts (lw_S q1422 q1423 q120 q1424) rfl rfl rfl cd_X8_in.2 ⟨Nat.le_of_ble_eq_true rfl, Nat.le_of_ble_eq_true rfl⟩) hW hS rfl hl.1 rfl (Nat.le_of_ble_eq_true rfl) dX8_best_13 (fun r4 σ3 H locs hw hW hS => ?_)
    obtain ⟨hz_r4, hw⟩ := hw
    refine lv_if_ne (tgt := 23) hx hb dX8_best_16 (by decide) (fun c15 => ?_) (fun c15 => ?_)
    · have hw := hw.2 c15
      refine lv_iload_n hx hb dX8_best_23 rfl (lv_at hl 2 rfl) ?_
      refine lv_iconst (v := (1 : Int32)) hx hb dX8_best_24 (by decide) ?_
      refine lv_icmp_le (tgt := 48) hx hb dX8_best_25 (by decide) (fun c14 => ?_) (fun c14 => ?_)
      · have hw := hw.1 c14
        refine lv_aload_n hx hb dX8_best_48 rfl (lv_at hl 0 rfl) ?_
        refine lv_iconst (v := (-1 : Int32)) hx hb dX8_best_49 (by decide) ?_
        refine mm_puti hx hb hts hown hW hS 35 (by decide) q1306 rfl rfl rfl dX8_best_50 (fun H locs hW hS => ?_)
        obtain ⟨σ5, eσ5⟩ : ∃ z, z = gg_s σ3 0 35 (-1 : Int32) := ⟨_, rfl⟩
        rw [← eσ5] at hW
        have hw := hw σ5 eσ5
        refine lv_aload_n hx hb dX8_best_53 rfl (lv_at hl 0 rfl) ?_
        refine lv_iconst (v := (0 : Int32)) hx hb dX8_best_54 (by decide) ?_
        refine mm_puti hx hb hts hown hW hS 36 (by decide) q1307 rfl rfl rfl dX8_best_55 (fun H locs hW hS => ?_)
        obtain ⟨σ6, eσ6⟩ : ∃ z, z = gg_s σ5 0 36 (0 : Int32) := ⟨_, rfl⟩
        rw [← eσ6] at hW
        have hw := hw σ6 eσ6
        refine lv_aload_n hx hb dX8_best_58 rfl (lv_at hl 0 rfl) ?_
        refine lv_iload_n hx hb dX8_best_59 rfl (lv_at hl 1 rfl) ?_
        refine lv_iconst (v := (-1 : Int32)) hx hb dX8_best_60 (by decide) ?_
        refine lv_iconst (v := (0 : Int32)) hx hb dX8_best_61 (by decide) ?_
        refine lv_iconst (v := (0 : Int32)) hx hb dX8_best_62 (by decide) ?_
        refine lv_iconst (v := (0 : Int32)) hx hb dX8_best_63 (by decide) ?_
        refine mm_VV ⟨hx, hb, hml, hown, hts⟩ (mmt_g_orders l 6 _ _ _ _ _ _ _ hw) (cwV 5 hts (lw_V q1644 q1646 qs95 q120 q1647) rfl rfl rfl cd_X8_orders ⟨Nat.le_of_ble_eq_true rfl, Nat.le_of_ble_eq_true rfl⟩) hW (mm_recv hW) hS rfl hl.1 rfl (Nat.le_of_ble_eq_true rfl) dX8_best_64 (fun σ7 H locs hw hW hS => ?_)
        refine lv_iload_n hx hb dX8_best_67 rfl (lv_at hl 2 rfl) ?_
        refine lv_if_ne (tgt := 78) hx hb dX8_best_68 (by decide) (fun c8 => ?_) (fun c8 => ?_)
        · have hw := hw.2 c8
          refine lv_aload_n hx hb dX8_best_78 rfl (lv_at hl 0 rfl) ?_
          refine mm_geti hx hb hts hown hW 36 (by decide) q1307 dX8_best_79 ?_
          refine lv_ineg hx hb dX8_best_82 ?_
          exact gg_iret (mm_mv D cl E A ad) C0 hW hS hw dX8_best_83
        · have hw := hw.1 c8
          refine lv_aload_n hx hb dX8_best_71 rfl (lv_at hl 0 rfl) ?_
          refine mm_geti hx hb hts hown hW 35 (by decide) q1306 dX8_best_72 ?_
          refine lv_goto (tgt := 83) hx hb dX8_best_75 (by decide) ?_
          exact gg_iret (mm_mv D cl E A ad) C0 hW hS hw dX8_best_83
      · have hw := hw.2 c14
        refine lv_iload_n hx hb dX8_best_28 rfl (lv_at hl 2 rfl) ?_
        refine lv_iconst (v := (4 : Int32)) hx hb dX8_best_29 (by decide) ?_
        refine lv_icmp_ne (tgt := 41) hx hb dX8_best_30 (by decide) (fun c13 => ?_) (fun c13 => ?_)
        · have hw := hw.2 c13
          refine lv_aload_n hx hb dX8_best_41 rfl (lv_at hl 0 rfl) ?_
          refine lv_iload_n hx hb dX8_best_42 rfl (lv_at hl 1 rfl) ?_
          refine lv_iload_n hx hb dX8_best_43 rfl (lv_at hl 2 rfl) ?_
          refine mm_VI ⟨hx, hb, hml, hown, hts⟩ (mmt_aloneOf l _ _ _ hw) (cwV 2 hts (lw_V q1657 q1659 qs97 q120 q1660) rfl rfl rfl cd_X8_aloneOf ⟨Nat.le_of_ble_eq_true rfl, Nat.le_of_ble_eq_true rfl⟩) hW (mm_recv hW) hS rfl hl.1 rfl (Nat.le_of_ble_eq_true rfl) dX8_best_44 (fun r10 σ9 H locs hw hW hS => ?_)
          exact gg_iret (mm_mv D cl E A ad) C0 hW hS hw dX8_best_47
        · have hw := hw.1 c13
          refine lv_aload_n hx hb dX8_best_33 rfl (lv_at hl 0 rfl) ?_
          refine lv_iload_n hx hb dX8_best_34 rfl (lv_at hl 1 rfl) ?_
          refine mm_VI ⟨hx, hb, hml, hown, hts⟩ (mmt_bareOf l _ _ hw) (cwV 1 hts (lw_V q1653 q1655 qs96 q120 q1656) rfl rfl rfl cd_X8_bareOf ⟨Nat.le_of_ble_eq_true rfl, Nat.le_of_ble_eq_true rfl⟩) hW (mm_recv hW) hS rfl hl.1 rfl (Nat.le_of_ble_eq_true rfl) dX8_best_35 (fun r12 σ11 H locs hw hW hS => ?_)
          refine lv_goto (tgt := 47) hx hb dX8_best_38 (by decide) ?_
          exact gg_iret (mm_mv D cl E A ad) C0 hW hS hw dX8_best_47
    · have hw := hw.1 c15
      refine lv_sipush (v := (-1000 : Int32)) hx hb dX8_best_19 (by decide) ?_
      exact gg_iret (mm_mv D cl E A ad) C0 hW hS hw dX8_best_22
theorem cd_X8_rowFor : yX8_rowFor.cls = RX8 ∧ yX8_rowFor.cls ≠ "java/lang/invoke/MethodHandle" ∧ yX8_rowFor.cls ≠ "java/lang/invoke/VarHandle" ∧ (parseMethodDescriptor yX8_rowFor.desc).map (fun d => d.parameters.length) = some 2 := by decide +kernel
/-! GleanersForGapsModel.rowFor(II)I -/
def mmw_rowFor_58  (Q : Int32 → gg_S → Prop) (K30 : Int32 → Int32 → Int32 → Int32 → Int32 → gg_S → Prop) (x1 : Int32) (x2 : Int32) (x5 : Int32) (x6 : Int32) (σ : gg_S) : Prop :=
    K30 x1 x2 x5 x6 (x5 + (1 : Int32)) σ
def mmw_rowFor_30  (Q : Int32 → gg_S → Prop)  : Nat → Int32 → Int32 → Int32 → Int32 → Int32 → gg_S → Prop
  | 0, _, _, _, _, _, _ => False
  | n + 1, x1, x2, x3, x4, x5, σ =>
    ((((4 : Int32) ≤ x5) → (((x2 = 0) → Q x3 σ) ∧ (¬ (x2 = 0) → Q x4 σ))) ∧ (¬ ((4 : Int32) ≤ x5) → (mmw_triesOf x1 x5 (0 : Int32) σ (fun r7 σ6 => (((x3 = (-1 : Int32)) → mmw_rowFor_58 Q (fun y0 y1 y2 y3 y4 τ => mmw_rowFor_30 Q n y0 y1 y2 y3 y4 τ) x1 x2 x5 r7 σ6) ∧ (¬ (x3 = (-1 : Int32)) → (((r7 ≤ x4) → mmw_rowFor_30 Q n x1 x2 x3 x4 (x5 + (1 : Int32)) σ6) ∧ (¬ (r7 ≤ x4) → mmw_rowFor_58 Q (fun y0 y1 y2 y3 y4 τ => mmw_rowFor_30 Q n y0 y1 y2 y3 y4 τ) x1 x2 x5 r7 σ6))))))))
def mmw_rowFor  (a1 : Int32) (a2 : Int32) (σ : gg_S) (Q : Int32 → gg_S → Prop) : Prop :=
    (mmw_isOne a1 σ (fun r2 σ1 => (((r2 = 0) → Q (-1000 : Int32) σ1) ∧ (¬ (r2 = 0) → (mmw_in ((a2).toInt64) (0 : Int64) (1 : Int64) σ1 (fun r4 σ3 => (((r4 = 0) → Q (-1000 : Int32) σ3) ∧ (¬ (r4 = 0) → ∃ k9, mmw_rowFor_30 Q k9 a1 a2 (-1 : Int32) (0 : Int32) (0 : Int32) σ3))))))))
abbrev mmr_rowFor : Room := { frames := 53, cells := 0, slots := 0, locals := 1232 }
set_option maxHeartbeats 4000000 in
set_option maxRecDepth 100000 in
theorem mmk_rowFor_58 {p : Program} {l : Launch} {e : Env} {s : State} {m : MethodId} {args : Array Value} {below : List Frame} {meth : Method} {c : Code} {D : va_G} {cl : List vw_C} {E : ClassId × ClassId} {A : Nat → Prop} {ad : Nat → Nat} {Q : Int32 → gg_S → Prop} {K30 : Int32 → Int32 → Int32 → Int32 → Int32 → gg_S → Prop}  (C0 : gg_C p s m args meth c RX8 cX8_rowFor 7 (some .int)) (hK30 : ∀ (x1 : Int32) (x2 : Int32) (x3 : Int32) (x4 : Int32) (x5 : Int32) (σ : gg_S) (H : Heap) (locs : List Loc) (ls : Array Slot), K30 x1 x2 x3 x4 x5 σ → mm_W D cl E A ad σ s H → va_S A s.heap H locs → lv_has ls 7 [(0, .ref (ad 0)), (1, .int x1), (2, .int x2), (3, .int x3), (4, .int x4), (5, .int x5)] → W p l e mmr_rowFor s m args below meth c H locs 0 0 (MQ below (va_Qi Q (fun u t => mm_W D cl E A ad u t t.heap) A) args s 0 0 A) (F0 m 30 ls [])) :
    ∀ (x1 : Int32) (x2 : Int32) (x5 : Int32) (x6 : Int32) (σ : gg_S) (H : Heap) (locs : List Loc) (ls : Array Slot), mmw_rowFor_58 Q K30 x1 x2 x5 x6 σ → mm_W D cl E A ad σ s H → va_S A s.heap H locs → lv_has ls 7 [(0, .ref (ad 0)), (1, .int x1), (2, .int x2), (5, .int x5), (6, .int x6)] → W p l e mmr_rowFor s m args below meth c H locs 0 0 (MQ below (va_Qi Q (fun u t => mm_W D cl E A ad u t t.heap) A) args s 0 0 A) (F0 m 58 ls []) := by
  obtain ⟨hx, hb, hml, hown, hts, hr, hlocks⟩ := id C0
  intro x1 x2 x5 x6 σ H locs ls hw hW hS hl
  unfold mmw_rowFor_58 at hw
  refine lv_iload hx hb dX8_rowFor_58 (lv_at hl 3 rfl) ?_
  refine lv_istore_n (lv' := [(3, .int x5), (0, .ref (ad 0)), (1, .int x1), (2, .int x2), (5, .int x5), (6, .int x6)]) hx hb dX8_rowFor_60 rfl hl (by decide) rfl (fun ls hl => ?_)
  refine lv_iload hx hb dX8_rowFor_61 (lv_at hl 5 rfl) ?_
  refine lv_istore (lv' := [(4, .int x6), (3, .int x5), (0, .ref (ad 0)), (1, .int x1), (2, .int x2), (5, .int x5), (6, .int x6)]) hx hb dX8_rowFor_63 hl (by decide) rfl (fun ls hl => ?_)
  refine lv_iinc (v := (x5 + (1 : Int32))) (lv' := [(5, .int (x5 + (1 : Int32))), (4, .int x6), (3, .int x5), (0, .ref (ad 0)), (1, .int x1), (2, .int x2), (6, .int x6)]) hx hb dX8_rowFor_65 hl (k := 5) rfl rfl (by decide) rfl (fun ls hl => ?_)
  refine lv_goto (tgt := 30) hx hb dX8_rowFor_68 (by decide) ?_
  exact hK30 x1 x2 x5 x6 (x5 + (1 : Int32)) σ _ _ _ hw hW hS (lv_sub hl [3, 4, 5, 2, 1, 0] rfl)
set_option maxHeartbeats 4000000 in
set_option maxRecDepth 100000 in
theorem mmk_rowFor_30 {p : Program} {l : Launch} {e : Env} {s : State} {m : MethodId} {args : Array Value} {below : List Frame} {meth : Method} {c : Code} {D : va_G} {cl : List vw_C} {E : ClassId × ClassId} {A : Nat → Prop} {ad : Nat → Nat} {Q : Int32 → gg_S → Prop}   (C0 : gg_C p s m args meth c RX8 cX8_rowFor 7 (some .int))  :
    ∀ n : Nat, ∀ (x1 : Int32) (x2 : Int32) (x3 : Int32) (x4 : Int32) (x5 : Int32) (σ : gg_S) (H : Heap) (locs : List Loc) (ls : Array Slot), mmw_rowFor_30 Q n x1 x2 x3 x4 x5 σ → mm_W D cl E A ad σ s H → va_S A s.heap H locs → lv_has ls 7 [(0, .ref (ad 0)), (1, .int x1), (2, .int x2), (3, .int x3), (4, .int x4), (5, .int x5)] → W p l e mmr_rowFor s m args below meth c H locs 0 0 (MQ below (va_Qi Q (fun u t => mm_W D cl E A ad u t t.heap) A) args s 0 0 A) (F0 m 30 ls []) := by
  obtain ⟨hx, hb, hml, hown, hts, hr, hlocks⟩ := id C0
  intro n
  induction n with
  | zero =>
    intro x1 x2 x3 x4 x5 σ H locs ls hw hW hS hl
    exact absurd hw (by unfold mmw_rowFor_30; exact id)
  | succ n ih =>
    intro x1 x2 x3 x4 x5 σ H locs ls hw hW hS hl
    unfold mmw_rowFor_30 at hw
    refine lv_iload hx hb dX8_rowFor_30 (lv_at hl 5 rfl) ?_
    refine lv_iconst (v := (4 : Int32)) hx hb dX8_rowFor_32 (by decide) ?_
    refine lv_icmp_ge (tgt := 71) hx hb dX8_rowFor_33 (by decide) (fun c10 => ?_) (fun c10 => ?_)
    · have hw := hw.1 c10
      refine lv_iload_n hx hb dX8_rowFor_71 rfl (lv_at hl 2 rfl) ?_
      refine lv_if_ne (tgt := 79) hx hb dX8_rowFor_72 (by decide) (fun c5 => ?_) (fun c5 => ?_)
      · have hw := hw.2 c5
        refine lv_iload hx hb dX8_rowFor_79 (lv_at hl 4 rfl) ?_
        exact gg_iret (mm_mv D cl E A ad) C0 hW hS hw dX8_rowFor_81
      · have hw := hw.1 c5
        refine lv_iload_n hx hb dX8_rowFor_75 rfl (lv_at hl 3 rfl) ?_
        refine lv_goto (tgt := 81) hx hb dX8_rowFor_76 (by decide) ?_
        exact gg_iret (mm_mv D cl E A ad) C0 hW hS hw dX8_rowFor_81
    · have hw := hw.2 c10
      refine lv_aload_n hx hb dX8_rowFor_36 rfl (lv_at hl 0 rfl) ?_
      refine lv_iload_n hx hb dX8_rowFor_37 rfl (lv_at hl 1 rfl) ?_
      refine lv_iload hx hb dX8_rowFor_38 (lv_at hl 5 rfl) ?_
      refine lv_iconst (v := (0 : Int32)) hx hb dX8_rowFor_40 (by decide) ?_
      refine mm_VI ⟨hx, hb, hml, hown, hts⟩ (mmt_triesOf l _ _ _ _ hw) (cwV 3 hts (lw_V q1619 q1621 qs91 q120 q1622) rfl rfl rfl cd_X8_triesOf ⟨Nat.le_of_ble_eq_true rfl, Nat.le_of_ble_eq_true rfl⟩) hW (mm_recv hW) hS rfl hl.1 rfl (Nat.le_of_ble_eq_true rfl) dX8_rowFor_41 (fun r7 σ6 H locs hw hW hS => ?_)
      refine lv_istore (lv' := [(6, .int r7), (0, .ref (ad 0)), (1, .int x1), (2, .int x2), (3, .int x3), (4, .int x4), (5, .int x5)]) hx hb dX8_rowFor_44 hl (by decide) rfl (fun ls hl => ?_)
      refine lv_iload_n hx hb dX8_rowFor_46 rfl (lv_at hl 4 rfl) ?_
      refine lv_iconst (v := (-1 : Int32)) hx hb dX8_rowFor_47 (by decide) ?_
      refine lv_icmp_eq (tgt := 58) hx hb dX8_rowFor_48 (by decide) (fun c9 => ?_) (fun c9 => ?_)
      · have hw := hw.1 c9
        exact mmk_rowFor_58  C0  (fun y0 y1 y2 y3 y4 τ H9 l9 s9 => ih y0 y1 y2 y3 y4 τ H9 l9 s9) x1 x2 x5 r7 σ6 _ _ _ hw hW hS (lv_sub hl [1, 2, 3, 6, 0] rfl)
      · have hw := hw.2 c9
        refine lv_iload hx hb dX8_rowFor_51 (lv_at hl 0 rfl) ?_
        refine lv_iload hx hb dX8_rowFor_53 (lv_at hl 5 rfl) ?_
        refine lv_icmp_le (tgt := 65) hx hb dX8_rowFor_55 (by decide) (fun c8 => ?_) (fun c8 => ?_)
        · have hw := hw.1 c8
          refine lv_iinc (v := (x5 + (1 : Int32))) (lv' := [(5, .int (x5 + (1 : Int32))), (6, .int r7), (0, .ref (ad 0)), (1, .int x1), (2, .int x2), (3, .int x3), (4, .int x4)]) hx hb dX8_rowFor_65 hl (k := 6) rfl rfl (by decide) rfl (fun ls hl => ?_)
          refine lv_goto (tgt := 30) hx hb dX8_rowFor_68 (by decide) ?_
          exact ih x1 x2 x3 x4 (x5 + (1 : Int32)) σ6 _ _ _ hw hW hS (lv_sub hl [2, 3, 4, 5, 6, 0] rfl)
        · have hw := hw.2 c8
          exact mmk_rowFor_58  C0  (fun y0 y1 y2 y3 y4 τ H9 l9 s9 => ih y0 y1 y2 y3 y4 τ H9 l9 s9) x1 x2 x5 r7 σ6 _ _ _ hw hW hS (lv_sub hl [1, 2, 3, 6, 0] rfl)
set_option maxHeartbeats 4000000 in
set_option maxRecDepth 100000 in
theorem mmt_rowFor (l : Launch) {D : va_G} {cl : List vw_C} {E : ClassId × ClassId} {A : Nat → Prop} {ad : Nat → Nat}  (a1 : Int32) (a2 : Int32) (σ : gg_S) {Q : Int32 → gg_S → Prop} (hw : mmw_rowFor a1 a2 σ Q) :
    Met l yX8_rowFor (ws_ yX8_rowFor cX8_rowFor 7 (some .int)) mmr_rowFor (va_Pc [.ref (ad 0), .int a1, .int a2] (fun U => mm_W D cl E A ad σ U U.heap)) (va_Qi Q (fun u t => mm_W D cl E A ad u t t.heap) A) 0 0 A := by
  refine gg_entry (W0 := fun s H => mm_W D cl E A ad σ s H) (by decide) (Nat.le_of_ble_eq_true rfl) ?_
  intro p e s m args below meth c C0 hW ls hl
  have C0 : gg_C p s m args meth c RX8 cX8_rowFor 7 (some .int) := C0
  obtain ⟨hx, hb, hml, hown, hts, hr, hlocks⟩ := id C0
  have hl : lv_has ls 7 [(0, .ref (ad 0)), (1, .int a1), (2, .int a2)] := hl
  have hS : va_S A s.heap s.heap [] := va_S.rf
  unfold mmw_rowFor at hw
  refine lv_aload_n hx hb dX8_rowFor_0 rfl (lv_at hl 0 rfl) ?_
  refine lv_iload_n hx hb dX8_rowFor_1 rfl (lv_at hl 1 rfl) ?_
  refine mm_VI ⟨hx, hb, hml, hown, hts⟩ (mmt_isOne l _ _ hw) (cwV 1 hts (lw_V q1438 q1440 qs61 q120 q1441) rfl rfl rfl cd_X8_isOne ⟨Nat.le_of_ble_eq_true rfl, Nat.le_of_ble_eq_true rfl⟩) hW (mm_recv hW) hS rfl hl.1 rfl (Nat.le_of_ble_eq_true rfl) dX8_rowFor_2 (fun r2 σ1 H locs hw hW hS => ?_)
  obtain ⟨hz_r2, hw⟩ := hw
  refine lv_if_eq (tgt := 18) hx hb dX8_rowFor_5 (by decide) (fun c12 => ?_) (fun c12 => ?_)
  · have hw := hw.1 c12
    refine lv_sipush (v := (-1000 : Int32)) hx hb dX8_rowFor_18 (by decide) ?_
    exact gg_iret (mm_mv D cl E A ad) C0 hW hS hw dX8_rowFor_21
  · have hw := hw.2 c12
    refine lv_iload_n hx hb dX8_rowFor_8 rfl (lv_at hl 2 rfl) ?_
    refine lv_i2l (v := (a2).toInt64) hx hb dX8_rowFor_9 rfl ?_
    refine lv_lconst (v := (0 : Int64)) hx hb dX8_rowFor_10 (by decide) ?_
    refine lv_lconst (v := (1 : Int64)) hx hb dX8_rowFor_11 (by decide) ?_
    refine mm_SI ⟨hx, hb, hml, hown, hts⟩ (mmt_in l _ _ _ _ hw) (va_cwS 3 hts (lw_S q1422 q1423 q120 q1424) rfl rfl rfl cd_X8_in.2 ⟨Nat.le_of_ble_eq_true rfl, Nat.le_of_ble_eq_true rfl⟩) hW hS rfl hl.1 rfl (Nat.le_of_ble_eq_true rfl) dX8_rowFor_12 (fun r4 σ3 H locs hw hW hS => ?_)
    obtain ⟨hz_r4, hw⟩ := hw
    refine lv_if_ne (tgt := 22) hx hb dX8_rowFor_15 (by decide) (fun c11 => ?_) (fun c11 => ?_)
    · have hw := hw.2 c11
      refine lv_iconst (v := (-1 : Int32)) hx hb dX8_rowFor_22 (by decide) ?_
      refine lv_istore_n (lv' := [(3, .int (-1 : Int32)), (0, .ref (ad 0)), (1, .int a1), (2, .int a2)]) hx hb dX8_rowFor_23 rfl hl (by decide) rfl (fun ls hl => ?_)
      refine lv_iconst (v := (0 : Int32)) hx hb dX8_rowFor_24 (by decide) ?_
      refine lv_istore (lv' := [(4, .int (0 : Int32)), (3, .int (-1 : Int32)), (0, .ref (ad 0)), (1, .int a1), (2, .int a2)]) hx hb dX8_rowFor_25 hl (by decide) rfl (fun ls hl => ?_)
      refine lv_iconst (v := (0 : Int32)) hx hb dX8_rowFor_27 (by decide) ?_
      refine lv_istore (lv' := [(5, .int (0 : Int32)), (4, .int (0 : Int32)), (3, .int (-1 : Int32)), (0, .ref (ad 0)), (1, .int a1), (2, .int a2)]) hx hb dX8_rowFor_28 hl (by decide) rfl (fun ls hl => ?_)
      obtain ⟨n9, hw⟩ := hw
      exact mmk_rowFor_30  C0   n9 a1 a2 (-1 : Int32) (0 : Int32) (0 : Int32) σ3 _ _ _ hw hW hS (lv_sub hl [3, 4, 5, 2, 1, 0] rfl)
    · have hw := hw.1 c11
      refine lv_sipush (v := (-1000 : Int32)) hx hb dX8_rowFor_18 (by decide) ?_
      exact gg_iret (mm_mv D cl E A ad) C0 hW hS hw dX8_rowFor_21
theorem cd_X8_longest : yX8_longest.cls = RX8 ∧ yX8_longest.cls ≠ "java/lang/invoke/MethodHandle" ∧ yX8_longest.cls ≠ "java/lang/invoke/VarHandle" ∧ (parseMethodDescriptor yX8_longest.desc).map (fun d => d.parameters.length) = some 0 := by decide +kernel
/-! GleanersForGapsModel.longest()I -/
def mmw_longest_21  (Q : Int32 → gg_S → Prop) (K6 : Int32 → Int32 → Int32 → gg_S → Prop) : Nat → Int32 → Int32 → Int32 → Int32 → Int32 → gg_S → Prop
  | 0, _, _, _, _, _, _ => False
  | n + 1, x1, x2, x3, x4, x5, σ =>
    (((x4 ≤ x5) → K6 x1 x2 (x3 + (1 : Int32)) σ) ∧ (¬ (x4 ≤ x5) → vp_in x5 24 ∧ ((((gg_g σ 9 x5.toNatClampNeg) ≤ x2) → mmw_longest_21 Q K6 n x1 x2 x3 x4 (x5 + (1 : Int32)) σ) ∧ (¬ ((gg_g σ 9 x5.toNatClampNeg) ≤ x2) → vp_in x5 24 ∧ mmw_longest_21 Q K6 n (((100 : Int32) * x3) + x5) (gg_g σ 9 x5.toNatClampNeg) x3 x4 (x5 + (1 : Int32)) σ))))
def mmw_longest_6  (Q : Int32 → gg_S → Prop)  : Nat → Int32 → Int32 → Int32 → gg_S → Prop
  | 0, _, _, _, _ => False
  | n + 1, x1, x2, x3, σ =>
    ((((4 : Int32) ≤ x3) → Q x1 σ) ∧ (¬ ((4 : Int32) ≤ x3) → (mmw_runsOf x3 σ (fun r2 σ1 => ∃ k9, mmw_longest_21 Q (fun y0 y1 y2 τ => mmw_longest_6 Q n y0 y1 y2 τ) k9 x1 x2 x3 r2 (0 : Int32) σ1))))
def mmw_longest   (σ : gg_S) (Q : Int32 → gg_S → Prop) : Prop :=
    ∃ k9, mmw_longest_6 Q k9 (-1 : Int32) (0 : Int32) (0 : Int32) σ
abbrev mmr_longest : Room := { frames := 2, cells := 0, slots := 0, locals := 45 }
set_option maxHeartbeats 4000000 in
set_option maxRecDepth 100000 in
theorem mmk_longest_21 {p : Program} {l : Launch} {e : Env} {s : State} {m : MethodId} {args : Array Value} {below : List Frame} {meth : Method} {c : Code} {D : va_G} {cl : List vw_C} {E : ClassId × ClassId} {A : Nat → Prop} {ad : Nat → Nat} {Q : Int32 → gg_S → Prop} {K6 : Int32 → Int32 → Int32 → gg_S → Prop}  (C0 : gg_C p s m args meth c RX8 cX8_longest 6 (some .int)) (hK6 : ∀ (x1 : Int32) (x2 : Int32) (x3 : Int32) (σ : gg_S) (H : Heap) (locs : List Loc) (ls : Array Slot), K6 x1 x2 x3 σ → mm_W D cl E A ad σ s H → va_S A s.heap H locs → lv_has ls 6 [(0, .ref (ad 0)), (1, .int x1), (2, .int x2), (3, .int x3)] → W p l e mmr_longest s m args below meth c H locs 0 0 (MQ below (va_Qi Q (fun u t => mm_W D cl E A ad u t t.heap) A) args s 0 0 A) (F0 m 6 ls [])) :
    ∀ n : Nat, ∀ (x1 : Int32) (x2 : Int32) (x3 : Int32) (x4 : Int32) (x5 : Int32) (σ : gg_S) (H : Heap) (locs : List Loc) (ls : Array Slot), mmw_longest_21 Q K6 n x1 x2 x3 x4 x5 σ → mm_W D cl E A ad σ s H → va_S A s.heap H locs → lv_has ls 6 [(0, .ref (ad 0)), (1, .int x1), (2, .int x2), (3, .int x3), (4, .int x4), (5, .int x5)] → W p l e mmr_longest s m args below meth c H locs 0 0 (MQ below (va_Qi Q (fun u t => mm_W D cl E A ad u t t.heap) A) args s 0 0 A) (F0 m 21 ls []) := by
  obtain ⟨hx, hb, hml, hown, hts, hr, hlocks⟩ := id C0
  intro n
  induction n with
  | zero =>
    intro x1 x2 x3 x4 x5 σ H locs ls hw hW hS hl
    exact absurd hw (by unfold mmw_longest_21; exact id)
  | succ n ih =>
    intro x1 x2 x3 x4 x5 σ H locs ls hw hW hS hl
    unfold mmw_longest_21 at hw
    refine lv_iload hx hb dX8_longest_21 (lv_at hl 5 rfl) ?_
    refine lv_iload hx hb dX8_longest_23 (lv_at hl 4 rfl) ?_
    refine lv_icmp_ge (tgt := 61) hx hb dX8_longest_25 (by decide) (fun c4 => ?_) (fun c4 => ?_)
    · have hw := hw.1 c4
      refine lv_iinc (v := (x3 + (1 : Int32))) (lv' := [(3, .int (x3 + (1 : Int32))), (0, .ref (ad 0)), (1, .int x1), (2, .int x2), (4, .int x4), (5, .int x5)]) hx hb dX8_longest_61 hl (k := 3) rfl rfl (by decide) rfl (fun ls hl => ?_)
      refine lv_goto (tgt := 6) hx hb dX8_longest_64 (by decide) ?_
      exact hK6 x1 x2 (x3 + (1 : Int32)) σ _ _ _ hw hW hS (lv_sub hl [1, 2, 3, 0] rfl)
    · have hw := hw.2 c4
      refine lv_aload_n hx hb dX8_longest_28 rfl (lv_at hl 0 rfl) ?_
      refine mm_getr hx hb hts hown hW 29 9 (by decide) q1300 dX8_longest_29 ?_
      refine lv_iload hx hb dX8_longest_32 (lv_at hl 5 rfl) ?_
      obtain ⟨hin, hw⟩ := hw
      refine mm_ald hx hb hW 8 (by decide) hin dX8_longest_34 ?_
      refine lv_iload_n hx hb dX8_longest_35 rfl (lv_at hl 2 rfl) ?_
      refine lv_icmp_le (tgt := 55) hx hb dX8_longest_36 (by decide) (fun c3 => ?_) (fun c3 => ?_)
      · have hw := hw.1 c3
        refine lv_iinc (v := (x5 + (1 : Int32))) (lv' := [(5, .int (x5 + (1 : Int32))), (0, .ref (ad 0)), (1, .int x1), (2, .int x2), (3, .int x3), (4, .int x4)]) hx hb dX8_longest_55 hl (k := 5) rfl rfl (by decide) rfl (fun ls hl => ?_)
        refine lv_goto (tgt := 21) hx hb dX8_longest_58 (by decide) ?_
        exact ih x1 x2 x3 x4 (x5 + (1 : Int32)) σ _ _ _ hw hW hS (lv_sub hl [1, 2, 3, 4, 5, 0] rfl)
      · have hw := hw.2 c3
        refine lv_bipush (v := (100 : Int32)) hx hb dX8_longest_39 (by decide) ?_
        refine lv_iload_n hx hb dX8_longest_41 rfl (lv_at hl 3 rfl) ?_
        refine lv_imul hx hb dX8_longest_42 ?_
        refine lv_iload hx hb dX8_longest_43 (lv_at hl 5 rfl) ?_
        refine lv_iadd hx hb dX8_longest_45 ?_
        refine lv_istore_n (lv' := [(1, .int (((100 : Int32) * x3) + x5)), (0, .ref (ad 0)), (2, .int x2), (3, .int x3), (4, .int x4), (5, .int x5)]) hx hb dX8_longest_46 rfl hl (by decide) rfl (fun ls hl => ?_)
        refine lv_aload_n hx hb dX8_longest_47 rfl (lv_at hl 1 rfl) ?_
        refine mm_getr hx hb hts hown hW 29 9 (by decide) q1300 dX8_longest_48 ?_
        refine lv_iload hx hb dX8_longest_51 (lv_at hl 5 rfl) ?_
        obtain ⟨hin, hw⟩ := hw
        refine mm_ald hx hb hW 8 (by decide) hin dX8_longest_53 ?_
        refine lv_istore_n (lv' := [(2, .int (gg_g σ 9 x5.toNatClampNeg)), (1, .int (((100 : Int32) * x3) + x5)), (0, .ref (ad 0)), (3, .int x3), (4, .int x4), (5, .int x5)]) hx hb dX8_longest_54 rfl hl (by decide) rfl (fun ls hl => ?_)
        refine lv_iinc (v := (x5 + (1 : Int32))) (lv' := [(5, .int (x5 + (1 : Int32))), (2, .int (gg_g σ 9 x5.toNatClampNeg)), (1, .int (((100 : Int32) * x3) + x5)), (0, .ref (ad 0)), (3, .int x3), (4, .int x4)]) hx hb dX8_longest_55 hl (k := 5) rfl rfl (by decide) rfl (fun ls hl => ?_)
        refine lv_goto (tgt := 21) hx hb dX8_longest_58 (by decide) ?_
        exact ih (((100 : Int32) * x3) + x5) (gg_g σ 9 x5.toNatClampNeg) x3 x4 (x5 + (1 : Int32)) σ _ _ _ hw hW hS (lv_sub hl [3, 2, 1, 4, 5, 0] rfl)
set_option maxHeartbeats 4000000 in
set_option maxRecDepth 100000 in
theorem mmk_longest_6 {p : Program} {l : Launch} {e : Env} {s : State} {m : MethodId} {args : Array Value} {below : List Frame} {meth : Method} {c : Code} {D : va_G} {cl : List vw_C} {E : ClassId × ClassId} {A : Nat → Prop} {ad : Nat → Nat} {Q : Int32 → gg_S → Prop}   (C0 : gg_C p s m args meth c RX8 cX8_longest 6 (some .int))  :
    ∀ n : Nat, ∀ (x1 : Int32) (x2 : Int32) (x3 : Int32) (σ : gg_S) (H : Heap) (locs : List Loc) (ls : Array Slot), mmw_longest_6 Q n x1 x2 x3 σ → mm_W D cl E A ad σ s H → va_S A s.heap H locs → lv_has ls 6 [(0, .ref (ad 0)), (1, .int x1), (2, .int x2), (3, .int x3)] → W p l e mmr_longest s m args below meth c H locs 0 0 (MQ below (va_Qi Q (fun u t => mm_W D cl E A ad u t t.heap) A) args s 0 0 A) (F0 m 6 ls []) := by
  obtain ⟨hx, hb, hml, hown, hts, hr, hlocks⟩ := id C0
  intro n
  induction n with
  | zero =>
    intro x1 x2 x3 σ H locs ls hw hW hS hl
    exact absurd hw (by unfold mmw_longest_6; exact id)
  | succ n ih =>
    intro x1 x2 x3 σ H locs ls hw hW hS hl
    unfold mmw_longest_6 at hw
    refine lv_iload_n hx hb dX8_longest_6 rfl (lv_at hl 3 rfl) ?_
    refine lv_iconst (v := (4 : Int32)) hx hb dX8_longest_7 (by decide) ?_
    refine lv_icmp_ge (tgt := 67) hx hb dX8_longest_8 (by decide) (fun c5 => ?_) (fun c5 => ?_)
    · have hw := hw.1 c5
      refine lv_iload_n hx hb dX8_longest_67 rfl (lv_at hl 1 rfl) ?_
      exact gg_iret (mm_mv D cl E A ad) C0 hW hS hw dX8_longest_68
    · have hw := hw.2 c5
      refine lv_aload_n hx hb dX8_longest_11 rfl (lv_at hl 0 rfl) ?_
      refine lv_iload_n hx hb dX8_longest_12 rfl (lv_at hl 3 rfl) ?_
      refine mm_VI ⟨hx, hb, hml, hown, hts⟩ (mmt_runsOf l _ _ hw) (cwV 1 hts (lw_V q1531 q1533 qs80 q120 q1534) rfl rfl rfl cd_X8_runsOf ⟨Nat.le_of_ble_eq_true rfl, Nat.le_of_ble_eq_true rfl⟩) hW (mm_recv hW) hS rfl hl.1 rfl (Nat.le_of_ble_eq_true rfl) dX8_longest_13 (fun r2 σ1 H locs hw hW hS => ?_)
      refine lv_istore (lv' := [(4, .int r2), (0, .ref (ad 0)), (1, .int x1), (2, .int x2), (3, .int x3)]) hx hb dX8_longest_16 hl (by decide) rfl (fun ls hl => ?_)
      refine lv_iconst (v := (0 : Int32)) hx hb dX8_longest_18 (by decide) ?_
      refine lv_istore (lv' := [(5, .int (0 : Int32)), (4, .int r2), (0, .ref (ad 0)), (1, .int x1), (2, .int x2), (3, .int x3)]) hx hb dX8_longest_19 hl (by decide) rfl (fun ls hl => ?_)
      obtain ⟨n9, hw⟩ := hw
      exact mmk_longest_21  C0  (fun y0 y1 y2 τ H9 l9 s9 => ih y0 y1 y2 τ H9 l9 s9) n9 x1 x2 x3 r2 (0 : Int32) σ1 _ _ _ hw hW hS (lv_sub hl [2, 3, 4, 5, 1, 0] rfl)
set_option maxHeartbeats 4000000 in
set_option maxRecDepth 100000 in
theorem mmt_longest (l : Launch) {D : va_G} {cl : List vw_C} {E : ClassId × ClassId} {A : Nat → Prop} {ad : Nat → Nat}   (σ : gg_S) {Q : Int32 → gg_S → Prop} (hw : mmw_longest σ Q) :
    Met l yX8_longest (ws_ yX8_longest cX8_longest 6 (some .int)) mmr_longest (va_Pc [.ref (ad 0)] (fun U => mm_W D cl E A ad σ U U.heap)) (va_Qi Q (fun u t => mm_W D cl E A ad u t t.heap) A) 0 0 A := by
  refine gg_entry (W0 := fun s H => mm_W D cl E A ad σ s H) (by decide) (Nat.le_of_ble_eq_true rfl) ?_
  intro p e s m args below meth c C0 hW ls hl
  have C0 : gg_C p s m args meth c RX8 cX8_longest 6 (some .int) := C0
  obtain ⟨hx, hb, hml, hown, hts, hr, hlocks⟩ := id C0
  have hl : lv_has ls 6 [(0, .ref (ad 0))] := hl
  have hS : va_S A s.heap s.heap [] := va_S.rf
  unfold mmw_longest at hw
  refine lv_iconst (v := (-1 : Int32)) hx hb dX8_longest_0 (by decide) ?_
  refine lv_istore_n (lv' := [(1, .int (-1 : Int32)), (0, .ref (ad 0))]) hx hb dX8_longest_1 rfl hl (by decide) rfl (fun ls hl => ?_)
  refine lv_iconst (v := (0 : Int32)) hx hb dX8_longest_2 (by decide) ?_
  refine lv_istore_n (lv' := [(2, .int (0 : Int32)), (1, .int (-1 : Int32)), (0, .ref (ad 0))]) hx hb dX8_longest_3 rfl hl (by decide) rfl (fun ls hl => ?_)
  refine lv_iconst (v := (0 : Int32)) hx hb dX8_longest_4 (by decide) ?_
  refine lv_istore_n (lv' := [(3, .int (0 : Int32)), (2, .int (0 : Int32)), (1, .int (-1 : Int32)), (0, .ref (ad 0))]) hx hb dX8_longest_5 rfl hl (by decide) rfl (fun ls hl => ?_)
  obtain ⟨n9, hw⟩ := hw
  exact mmk_longest_6  C0   n9 (-1 : Int32) (0 : Int32) (0 : Int32) σ _ _ _ hw hW hS (lv_sub hl [3, 2, 1, 0] rfl)
theorem cd_X8_lowest : yX8_lowest.cls = RX8 ∧ yX8_lowest.cls ≠ "java/lang/invoke/MethodHandle" ∧ yX8_lowest.cls ≠ "java/lang/invoke/VarHandle" ∧ (parseMethodDescriptor yX8_lowest.desc).map (fun d => d.parameters.length) = some 3 := by decide +kernel
/-! GleanersForGapsModel.lowest(JJI)J -/
def mmw_lowest_6  (Q : Int64 → gg_S → Prop)  : Nat → Int64 → Int64 → Int32 → Int64 → Int64 → gg_S → Prop
  | 0, _, _, _, _, _, _ => False
  | n + 1, x0, x2, x4, x5, x7, σ =>
    ((((lg_cmp x7 (0 : Int64)) = 0) → (((x4 = 0) → (¬ x5 = 0) ∧ Q (x0 / x5) σ) ∧ (¬ (x4 = 0) → (¬ x5 = 0) ∧ Q (x2 / x5) σ))) ∧ (¬ ((lg_cmp x7 (0 : Int64)) = 0) → (¬ x7 = 0) ∧ mmw_lowest_6 Q n x0 x2 x4 x7 (x5 - x5 / x7 * x7) σ))
def mmw_lowest  (a0 : Int64) (a2 : Int64) (a4 : Int32) (σ : gg_S) (Q : Int64 → gg_S → Prop) : Prop :=
    ∃ k9, mmw_lowest_6 Q k9 a0 a2 a4 a0 a2 σ
abbrev mmr_lowest : Room := { frames := 0, cells := 0, slots := 0, locals := 0 }
set_option maxHeartbeats 4000000 in
set_option maxRecDepth 100000 in
theorem mmk_lowest_6 {p : Program} {l : Launch} {e : Env} {s : State} {m : MethodId} {args : Array Value} {below : List Frame} {meth : Method} {c : Code} {D : va_G} {cl : List vw_C} {E : ClassId × ClassId} {A : Nat → Prop} {ad : Nat → Nat} {Q : Int64 → gg_S → Prop}   (C0 : gg_C p s m args meth c RX8 cX8_lowest 11 (some .long))  :
    ∀ n : Nat, ∀ (x0 : Int64) (x2 : Int64) (x4 : Int32) (x5 : Int64) (x7 : Int64) (σ : gg_S) (H : Heap) (locs : List Loc) (ls : Array Slot), mmw_lowest_6 Q n x0 x2 x4 x5 x7 σ → mm_W D cl E A ad σ s H → va_S A s.heap H locs → lv_has ls 11 [(0, .long x0), (2, .long x2), (4, .int x4), (5, .long x5), (7, .long x7)] → W p l e mmr_lowest s m args below meth c H locs 0 0 (MQ below (va_Ql Q (fun u t => mm_W D cl E A ad u t t.heap) A) args s 0 0 A) (F0 m 6 ls []) := by
  obtain ⟨hx, hb, hml, hown, hts, hr, hlocks⟩ := id C0
  intro n
  induction n with
  | zero =>
    intro x0 x2 x4 x5 x7 σ H locs ls hw hW hS hl
    exact absurd hw (by unfold mmw_lowest_6; exact id)
  | succ n ih =>
    intro x0 x2 x4 x5 x7 σ H locs ls hw hW hS hl
    unfold mmw_lowest_6 at hw
    refine lv_lload hx hb dX8_lowest_6 (lv_at hl 4 rfl) ?_
    refine lv_lconst (v := (0 : Int64)) hx hb dX8_lowest_8 (by decide) ?_
    refine W.lcmp hx hb dX8_lowest_9 ?_
    refine lv_if_eq (tgt := 31) hx hb dX8_lowest_10 (by decide) (fun c2 => ?_) (fun c2 => ?_)
    · have hw := hw.1 c2
      refine lv_iload hx hb dX8_lowest_31 (lv_at hl 2 rfl) ?_
      refine lv_if_ne (tgt := 43) hx hb dX8_lowest_33 (by decide) (fun c1 => ?_) (fun c1 => ?_)
      · have hw := hw.2 c1
        refine lv_lload_n hx hb dX8_lowest_43 rfl (lv_at hl 1 rfl) ?_
        refine lv_lload hx hb dX8_lowest_44 (lv_at hl 3 rfl) ?_
        obtain ⟨hnz, hw⟩ := hw
        refine lv_ldiv hx hb dX8_lowest_46 hnz ?_
        exact gg_lret (mm_mv D cl E A ad) C0 hW hS hw dX8_lowest_47
      · have hw := hw.1 c1
        refine lv_lload_n hx hb dX8_lowest_36 rfl (lv_at hl 0 rfl) ?_
        refine lv_lload hx hb dX8_lowest_37 (lv_at hl 3 rfl) ?_
        obtain ⟨hnz, hw⟩ := hw
        refine lv_ldiv hx hb dX8_lowest_39 hnz ?_
        refine lv_goto (tgt := 47) hx hb dX8_lowest_40 (by decide) ?_
        exact gg_lret (mm_mv D cl E A ad) C0 hW hS hw dX8_lowest_47
    · have hw := hw.2 c2
      refine lv_lload hx hb dX8_lowest_13 (lv_at hl 3 rfl) ?_
      refine lv_lload hx hb dX8_lowest_15 (lv_at hl 4 rfl) ?_
      obtain ⟨hnz, hw⟩ := hw
      refine lv_lrem hx hb dX8_lowest_17 hnz ?_
      refine lv_lstore (lv' := [(9, .long (x5 - x5 / x7 * x7)), (0, .long x0), (2, .long x2), (4, .int x4), (5, .long x5), (7, .long x7)]) hx hb dX8_lowest_18 hl (by decide) rfl (fun ls hl => ?_)
      refine lv_lload hx hb dX8_lowest_20 (lv_at hl 5 rfl) ?_
      refine lv_lstore (lv' := [(5, .long x7), (9, .long (x5 - x5 / x7 * x7)), (0, .long x0), (2, .long x2), (4, .int x4), (7, .long x7)]) hx hb dX8_lowest_22 hl (by decide) rfl (fun ls hl => ?_)
      refine lv_lload hx hb dX8_lowest_24 (lv_at hl 1 rfl) ?_
      refine lv_lstore (lv' := [(7, .long (x5 - x5 / x7 * x7)), (5, .long x7), (9, .long (x5 - x5 / x7 * x7)), (0, .long x0), (2, .long x2), (4, .int x4)]) hx hb dX8_lowest_26 hl (by decide) rfl (fun ls hl => ?_)
      refine lv_goto (tgt := 6) hx hb dX8_lowest_28 (by decide) ?_
      exact ih x0 x2 x4 x7 (x5 - x5 / x7 * x7) σ _ _ _ hw hW hS (lv_sub hl [3, 4, 5, 1, 0] rfl)
set_option maxHeartbeats 4000000 in
set_option maxRecDepth 100000 in
theorem mmt_lowest (l : Launch) {D : va_G} {cl : List vw_C} {E : ClassId × ClassId} {A : Nat → Prop} {ad : Nat → Nat}  (a0 : Int64) (a2 : Int64) (a4 : Int32) (σ : gg_S) {Q : Int64 → gg_S → Prop} (hw : mmw_lowest a0 a2 a4 σ Q) :
    Met l yX8_lowest (ws_ yX8_lowest cX8_lowest 11 (some .long)) mmr_lowest (va_Pc [.long a0, .long a2, .int a4] (fun U => mm_W D cl E A ad σ U U.heap)) (va_Ql Q (fun u t => mm_W D cl E A ad u t t.heap) A) 0 0 A := by
  refine gg_entry (W0 := fun s H => mm_W D cl E A ad σ s H) (by decide) (Nat.le_of_ble_eq_true rfl) ?_
  intro p e s m args below meth c C0 hW ls hl
  have C0 : gg_C p s m args meth c RX8 cX8_lowest 11 (some .long) := C0
  obtain ⟨hx, hb, hml, hown, hts, hr, hlocks⟩ := id C0
  have hl : lv_has ls 11 [(0, .long a0), (2, .long a2), (4, .int a4)] := hl
  have hS : va_S A s.heap s.heap [] := va_S.rf
  unfold mmw_lowest at hw
  refine lv_lload_n hx hb dX8_lowest_0 rfl (lv_at hl 0 rfl) ?_
  refine lv_lstore (lv' := [(5, .long a0), (0, .long a0), (2, .long a2), (4, .int a4)]) hx hb dX8_lowest_1 hl (by decide) rfl (fun ls hl => ?_)
  refine lv_lload_n hx hb dX8_lowest_3 rfl (lv_at hl 2 rfl) ?_
  refine lv_lstore (lv' := [(7, .long a2), (5, .long a0), (0, .long a0), (2, .long a2), (4, .int a4)]) hx hb dX8_lowest_4 hl (by decide) rfl (fun ls hl => ?_)
  obtain ⟨n9, hw⟩ := hw
  exact mmk_lowest_6  C0   n9 a0 a2 a4 a0 a2 σ _ _ _ hw hW hS (lv_sub hl [2, 3, 4, 1, 0] rfl)
theorem cd_X8_close : yX8_close.cls = RX8 ∧ yX8_close.cls ≠ "java/lang/invoke/MethodHandle" ∧ yX8_close.cls ≠ "java/lang/invoke/VarHandle" ∧ (parseMethodDescriptor yX8_close.desc).map (fun d => d.parameters.length) = some 1 := by decide +kernel
/-! GleanersForGapsModel.close(I)J -/
def mmw_close  (a1 : Int32) (σ : gg_S) (Q : Int64 → gg_S → Prop) : Prop :=
    vp_in (0 : Int32) 5 ∧ vp_in (1 : Int32) 5 ∧ vp_in (2 : Int32) 5 ∧ vp_in (3 : Int32) 5 ∧ (mmw_in ((a1).toInt64) (0 : Int64) (1 : Int64) σ (fun r2 σ1 => (((r2 = 0) → Q (-4611686018427387904 : Int64) σ1) ∧ (¬ (r2 = 0) → (((((((gg_g σ 5 (0 : Int32).toNatClampNeg) + (gg_g σ 5 (1 : Int32).toNatClampNeg)) + (gg_g σ 5 (2 : Int32).toNatClampNeg)) + (gg_g σ 5 (3 : Int32).toNatClampNeg)) ≤ 0) → Q (-4611686018427387904 : Int64) σ1) ∧ (¬ (((((gg_g σ 5 (0 : Int32).toNatClampNeg) + (gg_g σ 5 (1 : Int32).toNatClampNeg)) + (gg_g σ 5 (2 : Int32).toNatClampNeg)) + (gg_g σ 5 (3 : Int32).toNatClampNeg)) ≤ 0) → (mmw_gapsAll σ1 (fun r4 σ3 => (mmw_lowest (((((((gg_g σ 5 (0 : Int32).toNatClampNeg) + (gg_g σ 5 (1 : Int32).toNatClampNeg)) + (gg_g σ 5 (2 : Int32).toNatClampNeg)) + (gg_g σ 5 (3 : Int32).toNatClampNeg)) - r4)).toInt64) ((((((gg_g σ 5 (0 : Int32).toNatClampNeg) + (gg_g σ 5 (1 : Int32).toNatClampNeg)) + (gg_g σ 5 (2 : Int32).toNatClampNeg)) + (gg_g σ 5 (3 : Int32).toNatClampNeg))).toInt64) a1 σ3 (fun r6 σ5 => Q r6 σ5))))))))))
abbrev mmr_close : Room := { frames := 3, cells := 0, slots := 0, locals := 63 }
set_option maxHeartbeats 4000000 in
set_option maxRecDepth 100000 in
theorem mmt_close (l : Launch) {D : va_G} {cl : List vw_C} {E : ClassId × ClassId} {A : Nat → Prop} {ad : Nat → Nat}  (a1 : Int32) (σ : gg_S) {Q : Int64 → gg_S → Prop} (hw : mmw_close a1 σ Q) :
    Met l yX8_close (ws_ yX8_close cX8_close 3 (some .long)) mmr_close (va_Pc [.ref (ad 0), .int a1] (fun U => mm_W D cl E A ad σ U U.heap)) (va_Ql Q (fun u t => mm_W D cl E A ad u t t.heap) A) 0 0 A := by
  refine gg_entry (W0 := fun s H => mm_W D cl E A ad σ s H) (by decide) (Nat.le_of_ble_eq_true rfl) ?_
  intro p e s m args below meth c C0 hW ls hl
  have C0 : gg_C p s m args meth c RX8 cX8_close 3 (some .long) := C0
  obtain ⟨hx, hb, hml, hown, hts, hr, hlocks⟩ := id C0
  have hl : lv_has ls 3 [(0, .ref (ad 0)), (1, .int a1)] := hl
  have hS : va_S A s.heap s.heap [] := va_S.rf
  unfold mmw_close at hw
  refine lv_aload_n hx hb dX8_close_0 rfl (lv_at hl 0 rfl) ?_
  refine mm_getr hx hb hts hown hW 9 5 (by decide) q1280 dX8_close_1 ?_
  refine lv_iconst (v := (0 : Int32)) hx hb dX8_close_4 (by decide) ?_
  obtain ⟨hin, hw⟩ := hw
  refine mm_ald hx hb hW 4 (by decide) hin dX8_close_5 ?_
  refine lv_aload_n hx hb dX8_close_6 rfl (lv_at hl 0 rfl) ?_
  refine mm_getr hx hb hts hown hW 9 5 (by decide) q1280 dX8_close_7 ?_
  refine lv_iconst (v := (1 : Int32)) hx hb dX8_close_10 (by decide) ?_
  obtain ⟨hin, hw⟩ := hw
  refine mm_ald hx hb hW 4 (by decide) hin dX8_close_11 ?_
  refine lv_iadd hx hb dX8_close_12 ?_
  refine lv_aload_n hx hb dX8_close_13 rfl (lv_at hl 0 rfl) ?_
  refine mm_getr hx hb hts hown hW 9 5 (by decide) q1280 dX8_close_14 ?_
  refine lv_iconst (v := (2 : Int32)) hx hb dX8_close_17 (by decide) ?_
  obtain ⟨hin, hw⟩ := hw
  refine mm_ald hx hb hW 4 (by decide) hin dX8_close_18 ?_
  refine lv_iadd hx hb dX8_close_19 ?_
  refine lv_aload_n hx hb dX8_close_20 rfl (lv_at hl 0 rfl) ?_
  refine mm_getr hx hb hts hown hW 9 5 (by decide) q1280 dX8_close_21 ?_
  refine lv_iconst (v := (3 : Int32)) hx hb dX8_close_24 (by decide) ?_
  obtain ⟨hin, hw⟩ := hw
  refine mm_ald hx hb hW 4 (by decide) hin dX8_close_25 ?_
  refine lv_iadd hx hb dX8_close_26 ?_
  refine lv_istore_n (lv' := [(2, .int ((((gg_g σ 5 (0 : Int32).toNatClampNeg) + (gg_g σ 5 (1 : Int32).toNatClampNeg)) + (gg_g σ 5 (2 : Int32).toNatClampNeg)) + (gg_g σ 5 (3 : Int32).toNatClampNeg))), (0, .ref (ad 0)), (1, .int a1)]) hx hb dX8_close_27 rfl hl (by decide) rfl (fun ls hl => ?_)
  refine lv_iload_n hx hb dX8_close_28 rfl (lv_at hl 2 rfl) ?_
  refine lv_i2l (v := (a1).toInt64) hx hb dX8_close_29 rfl ?_
  refine lv_lconst (v := (0 : Int64)) hx hb dX8_close_30 (by decide) ?_
  refine lv_lconst (v := (1 : Int64)) hx hb dX8_close_31 (by decide) ?_
  refine mm_SI ⟨hx, hb, hml, hown, hts⟩ (mmt_in l _ _ _ _ hw) (va_cwS 3 hts (lw_S q1422 q1423 q120 q1424) rfl rfl rfl cd_X8_in.2 ⟨Nat.le_of_ble_eq_true rfl, Nat.le_of_ble_eq_true rfl⟩) hW hS rfl hl.1 rfl (Nat.le_of_ble_eq_true rfl) dX8_close_32 (fun r2 σ1 H locs hw hW hS => ?_)
  obtain ⟨hz_r2, hw⟩ := hw
  refine lv_if_eq (tgt := 58) hx hb dX8_close_35 (by decide) (fun c8 => ?_) (fun c8 => ?_)
  · have hw := hw.1 c8
    refine lv_ldc2 (own := RX8) (v := (-4611686018427387904 : Int64)) hx hb hown (hts _ q1676) dX8_close_58 ?_
    exact gg_lret (mm_mv D cl E A ad) C0 hW hS hw dX8_close_61
  · have hw := hw.2 c8
    refine lv_iload_n hx hb dX8_close_38 rfl (lv_at hl 0 rfl) ?_
    refine lv_if_le (tgt := 58) hx hb dX8_close_39 (by decide) (fun c7 => ?_) (fun c7 => ?_)
    · have hw := hw.1 c7
      refine lv_ldc2 (own := RX8) (v := (-4611686018427387904 : Int64)) hx hb hown (hts _ q1676) dX8_close_58 ?_
      exact gg_lret (mm_mv D cl E A ad) C0 hW hS hw dX8_close_61
    · have hw := hw.2 c7
      refine lv_iload_n hx hb dX8_close_42 rfl (lv_at hl 0 rfl) ?_
      refine lv_aload_n hx hb dX8_close_43 rfl (lv_at hl 1 rfl) ?_
      refine mm_VI ⟨hx, hb, hml, hown, hts⟩ (mmt_gapsAll l _ hw) (cwV 0 hts (lw_V q1611 q1613 qs90 q120 q1614) rfl rfl rfl cd_X8_gapsAll ⟨Nat.le_of_ble_eq_true rfl, Nat.le_of_ble_eq_true rfl⟩) hW (mm_recv hW) hS rfl hl.1 rfl (Nat.le_of_ble_eq_true rfl) dX8_close_44 (fun r4 σ3 H locs hw hW hS => ?_)
      refine lv_isub hx hb dX8_close_47 ?_
      refine lv_i2l (v := ((((((gg_g σ 5 (0 : Int32).toNatClampNeg) + (gg_g σ 5 (1 : Int32).toNatClampNeg)) + (gg_g σ 5 (2 : Int32).toNatClampNeg)) + (gg_g σ 5 (3 : Int32).toNatClampNeg)) - r4)).toInt64) hx hb dX8_close_48 rfl ?_
      refine lv_iload_n hx hb dX8_close_49 rfl (lv_at hl 0 rfl) ?_
      refine lv_i2l (v := (((((gg_g σ 5 (0 : Int32).toNatClampNeg) + (gg_g σ 5 (1 : Int32).toNatClampNeg)) + (gg_g σ 5 (2 : Int32).toNatClampNeg)) + (gg_g σ 5 (3 : Int32).toNatClampNeg))).toInt64) hx hb dX8_close_50 rfl ?_
      refine lv_iload_n hx hb dX8_close_51 rfl (lv_at hl 2 rfl) ?_
      refine mm_SJ ⟨hx, hb, hml, hown, hts⟩ (mmt_lowest l _ _ _ _ hw) (va_cwS 3 hts (lw_S q1673 q1674 q120 q1675) rfl rfl rfl cd_X8_lowest.2 ⟨Nat.le_of_ble_eq_true rfl, Nat.le_of_ble_eq_true rfl⟩) hW hS rfl hl.1 rfl (Nat.le_of_ble_eq_true rfl) dX8_close_52 (fun r6 σ5 H locs hw hW hS => ?_)
      refine lv_goto (tgt := 61) hx hb dX8_close_55 (by decide) ?_
      exact gg_lret (mm_mv D cl E A ad) C0 hW hS hw dX8_close_61
theorem cd_X8_firstOther : yX8_firstOther.cls = RX8 ∧ yX8_firstOther.cls ≠ "java/lang/invoke/MethodHandle" ∧ yX8_firstOther.cls ≠ "java/lang/invoke/VarHandle" ∧ (parseMethodDescriptor yX8_firstOther.desc).map (fun d => d.parameters.length) = some 3 := by decide +kernel
/-! GleanersForGapsModel.firstOther(III)I -/
def mmw_firstOther_18  (Q : Int32 → gg_S → Prop)  : Nat → Int32 → Int32 → gg_S → Prop
  | 0, _, _, _ => False
  | n + 1, x1, x4, σ =>
    vp_in x1 4 ∧ ((((gg_g σ 20 x1.toNatClampNeg) ≤ x4) → Q (-1 : Int32) σ) ∧ (¬ ((gg_g σ 20 x1.toNatClampNeg) ≤ x4) → vp_in x4 24 ∧ vp_in (((40 : Int32) * x1) + x4) 160 ∧ ((((gg_g σ 10 x4.toNatClampNeg) = (gg_g σ 21 (((40 : Int32) * x1) + x4).toNatClampNeg)) → mmw_firstOther_18 Q n x1 (x4 + (1 : Int32)) σ) ∧ (¬ ((gg_g σ 10 x4.toNatClampNeg) = (gg_g σ 21 (((40 : Int32) * x1) + x4).toNatClampNeg)) → Q x4 σ))))
def mmw_firstOther  (a1 : Int32) (a2 : Int32) (a3 : Int32) (σ : gg_S) (Q : Int32 → gg_S → Prop) : Prop :=
    (mmw_laysAside σ (fun σ1 => (mmw_gleans a2 a3 σ1 (fun r3 σ2 => (mmw_laysBack σ2 (fun σ4 => ∃ k9, mmw_firstOther_18 Q k9 a1 (0 : Int32) σ4))))))
abbrev mmr_firstOther : Room := { frames := 52, cells := 0, slots := 0, locals := 1207 }
set_option maxHeartbeats 4000000 in
set_option maxRecDepth 100000 in
theorem mmk_firstOther_18 {p : Program} {l : Launch} {e : Env} {s : State} {m : MethodId} {args : Array Value} {below : List Frame} {meth : Method} {c : Code} {D : va_G} {cl : List vw_C} {E : ClassId × ClassId} {A : Nat → Prop} {ad : Nat → Nat} {Q : Int32 → gg_S → Prop}   (C0 : gg_C p s m args meth c RX8 cX8_firstOther 5 (some .int))  :
    ∀ n : Nat, ∀ (x1 : Int32) (x4 : Int32) (σ : gg_S) (H : Heap) (locs : List Loc) (ls : Array Slot), mmw_firstOther_18 Q n x1 x4 σ → mm_W D cl E A ad σ s H → va_S A s.heap H locs → lv_has ls 5 [(0, .ref (ad 0)), (1, .int x1), (4, .int x4)] → W p l e mmr_firstOther s m args below meth c H locs 0 0 (MQ below (va_Qi Q (fun u t => mm_W D cl E A ad u t t.heap) A) args s 0 0 A) (F0 m 18 ls []) := by
  obtain ⟨hx, hb, hml, hown, hts, hr, hlocks⟩ := id C0
  intro n
  induction n with
  | zero =>
    intro x1 x4 σ H locs ls hw hW hS hl
    exact absurd hw (by unfold mmw_firstOther_18; exact id)
  | succ n ih =>
    intro x1 x4 σ H locs ls hw hW hS hl
    unfold mmw_firstOther_18 at hw
    refine lv_iload hx hb dX8_firstOther_18 (lv_at hl 2 rfl) ?_
    refine lv_aload_n hx hb dX8_firstOther_20 rfl (lv_at hl 0 rfl) ?_
    refine mm_getr hx hb hts hown hW 45 20 (by decide) q1316 dX8_firstOther_21 ?_
    refine lv_iload_n hx hb dX8_firstOther_24 rfl (lv_at hl 1 rfl) ?_
    obtain ⟨hin, hw⟩ := hw
    refine mm_ald hx hb hW 19 (by decide) hin dX8_firstOther_25 ?_
    refine lv_icmp_ge (tgt := 60) hx hb dX8_firstOther_26 (by decide) (fun c6 => ?_) (fun c6 => ?_)
    · have hw := hw.1 c6
      refine lv_iconst (v := (-1 : Int32)) hx hb dX8_firstOther_60 (by decide) ?_
      exact gg_iret (mm_mv D cl E A ad) C0 hW hS hw dX8_firstOther_61
    · have hw := hw.2 c6
      refine lv_aload_n hx hb dX8_firstOther_29 rfl (lv_at hl 0 rfl) ?_
      refine mm_getr hx hb hts hown hW 30 10 (by decide) q1301 dX8_firstOther_30 ?_
      refine lv_iload hx hb dX8_firstOther_33 (lv_at hl 2 rfl) ?_
      obtain ⟨hin, hw⟩ := hw
      refine mm_ald hx hb hW 9 (by decide) hin dX8_firstOther_35 ?_
      refine lv_aload_n hx hb dX8_firstOther_36 rfl (lv_at hl 0 rfl) ?_
      refine mm_getr hx hb hts hown hW 46 21 (by decide) q1317 dX8_firstOther_37 ?_
      refine lv_bipush (v := (40 : Int32)) hx hb dX8_firstOther_40 (by decide) ?_
      refine lv_iload_n hx hb dX8_firstOther_42 rfl (lv_at hl 1 rfl) ?_
      refine lv_imul hx hb dX8_firstOther_43 ?_
      refine lv_iload hx hb dX8_firstOther_44 (lv_at hl 2 rfl) ?_
      refine lv_iadd hx hb dX8_firstOther_46 ?_
      obtain ⟨hin, hw⟩ := hw
      refine mm_ald hx hb hW 20 (by decide) hin dX8_firstOther_47 ?_
      refine lv_icmp_eq (tgt := 54) hx hb dX8_firstOther_48 (by decide) (fun c5 => ?_) (fun c5 => ?_)
      · have hw := hw.1 c5
        refine lv_iinc (v := (x4 + (1 : Int32))) (lv' := [(4, .int (x4 + (1 : Int32))), (0, .ref (ad 0)), (1, .int x1)]) hx hb dX8_firstOther_54 hl (k := 2) rfl rfl (by decide) rfl (fun ls hl => ?_)
        refine lv_goto (tgt := 18) hx hb dX8_firstOther_57 (by decide) ?_
        exact ih x1 (x4 + (1 : Int32)) σ _ _ _ hw hW hS (lv_sub hl [1, 2, 0] rfl)
      · have hw := hw.2 c5
        refine lv_iload hx hb dX8_firstOther_51 (lv_at hl 2 rfl) ?_
        exact gg_iret (mm_mv D cl E A ad) C0 hW hS hw dX8_firstOther_53
set_option maxHeartbeats 4000000 in
set_option maxRecDepth 100000 in
theorem mmt_firstOther (l : Launch) {D : va_G} {cl : List vw_C} {E : ClassId × ClassId} {A : Nat → Prop} {ad : Nat → Nat}  (a1 : Int32) (a2 : Int32) (a3 : Int32) (σ : gg_S) {Q : Int32 → gg_S → Prop} (hw : mmw_firstOther a1 a2 a3 σ Q) :
    Met l yX8_firstOther (ws_ yX8_firstOther cX8_firstOther 5 (some .int)) mmr_firstOther (va_Pc [.ref (ad 0), .int a1, .int a2, .int a3] (fun U => mm_W D cl E A ad σ U U.heap)) (va_Qi Q (fun u t => mm_W D cl E A ad u t t.heap) A) 0 0 A := by
  refine gg_entry (W0 := fun s H => mm_W D cl E A ad σ s H) (by decide) (Nat.le_of_ble_eq_true rfl) ?_
  intro p e s m args below meth c C0 hW ls hl
  have C0 : gg_C p s m args meth c RX8 cX8_firstOther 5 (some .int) := C0
  obtain ⟨hx, hb, hml, hown, hts, hr, hlocks⟩ := id C0
  have hl : lv_has ls 5 [(0, .ref (ad 0)), (1, .int a1), (2, .int a2), (3, .int a3)] := hl
  have hS : va_S A s.heap s.heap [] := va_S.rf
  unfold mmw_firstOther at hw
  refine lv_aload_n hx hb dX8_firstOther_0 rfl (lv_at hl 0 rfl) ?_
  refine mm_VV ⟨hx, hb, hml, hown, hts⟩ (mmt_laysAside l _ hw) (cwV 0 hts (lw_V q1623 q1625 qs92 q120 q1626) rfl rfl rfl cd_X8_laysAside ⟨Nat.le_of_ble_eq_true rfl, Nat.le_of_ble_eq_true rfl⟩) hW (mm_recv hW) hS rfl hl.1 rfl (Nat.le_of_ble_eq_true rfl) dX8_firstOther_1 (fun σ1 H locs hw hW hS => ?_)
  refine lv_aload_n hx hb dX8_firstOther_4 rfl (lv_at hl 0 rfl) ?_
  refine lv_iload_n hx hb dX8_firstOther_5 rfl (lv_at hl 2 rfl) ?_
  refine lv_iload_n hx hb dX8_firstOther_6 rfl (lv_at hl 3 rfl) ?_
  refine mm_VI ⟨hx, hb, hml, hown, hts⟩ (mmt_gleans l _ _ _ hw) (cwV 2 hts (lw_V q1587 q1589 qs86 q120 q1590) rfl rfl rfl cd_X8_gleans ⟨Nat.le_of_ble_eq_true rfl, Nat.le_of_ble_eq_true rfl⟩) hW (mm_recv hW) hS rfl hl.1 rfl (Nat.le_of_ble_eq_true rfl) dX8_firstOther_7 (fun r3 σ2 H locs hw hW hS => ?_)
  refine lv_pop hx hb dX8_firstOther_10 rfl ?_
  refine lv_aload_n hx hb dX8_firstOther_11 rfl (lv_at hl 0 rfl) ?_
  refine mm_VV ⟨hx, hb, hml, hown, hts⟩ (mmt_laysBack l _ hw) (cwV 0 hts (lw_V q1627 q1629 qs93 q120 q1630) rfl rfl rfl cd_X8_laysBack ⟨Nat.le_of_ble_eq_true rfl, Nat.le_of_ble_eq_true rfl⟩) hW (mm_recv hW) hS rfl hl.1 rfl (Nat.le_of_ble_eq_true rfl) dX8_firstOther_12 (fun σ4 H locs hw hW hS => ?_)
  refine lv_iconst (v := (0 : Int32)) hx hb dX8_firstOther_15 (by decide) ?_
  refine lv_istore (lv' := [(4, .int (0 : Int32)), (0, .ref (ad 0)), (1, .int a1), (2, .int a2), (3, .int a3)]) hx hb dX8_firstOther_16 hl (by decide) rfl (fun ls hl => ?_)
  obtain ⟨n9, hw⟩ := hw
  exact mmk_firstOther_18  C0   n9 a1 (0 : Int32) σ4 _ _ _ hw hW hS (lv_sub hl [1, 2, 0] rfl)
theorem cd_X8_isSheet : yX8_isSheet.cls = RX8 ∧ yX8_isSheet.cls ≠ "java/lang/invoke/MethodHandle" ∧ yX8_isSheet.cls ≠ "java/lang/invoke/VarHandle" ∧ (parseMethodDescriptor yX8_isSheet.desc).map (fun d => d.parameters.length) = some 1 := by decide +kernel
/-! GleanersForGapsModel.isSheet(I)Z -/
def mmw_isSheet  (a0 : Int32) (σ : gg_S) (Q : Int32 → gg_S → Prop) : Prop :=
    (mmw_in ((a0).toInt64) (0 : Int64) (3 : Int64) σ (fun r2 σ1 => Q r2 σ1))
abbrev mmr_isSheet : Room := { frames := 1, cells := 0, slots := 0, locals := 25 }
set_option maxHeartbeats 4000000 in
set_option maxRecDepth 100000 in
theorem mmt_isSheet (l : Launch) {D : va_G} {cl : List vw_C} {E : ClassId × ClassId} {A : Nat → Prop} {ad : Nat → Nat}  (a0 : Int32) (σ : gg_S) {Q : Int32 → gg_S → Prop} (hw : mmw_isSheet a0 σ Q) :
    Met l yX8_isSheet (ws_ yX8_isSheet cX8_isSheet 1 (some .boolean)) mmr_isSheet (va_Pc [.int a0] (fun U => mm_W D cl E A ad σ U U.heap)) (va_Qi (fun r u => (r = 0 ∨ r = 1) ∧ Q r u) (fun u t => mm_W D cl E A ad u t t.heap) A) 0 0 A := by
  refine gg_entry (W0 := fun s H => mm_W D cl E A ad σ s H) (by decide) (Nat.le_of_ble_eq_true rfl) ?_
  intro p e s m args below meth c C0 hW ls hl
  have C0 : gg_C p s m args meth c RX8 cX8_isSheet 1 (some .boolean) := C0
  obtain ⟨hx, hb, hml, hown, hts, hr, hlocks⟩ := id C0
  have hl : lv_has ls 1 [(0, .int a0)] := hl
  have hS : va_S A s.heap s.heap [] := va_S.rf
  unfold mmw_isSheet at hw
  refine lv_iload_n hx hb dX8_isSheet_0 rfl (lv_at hl 0 rfl) ?_
  refine lv_i2l (v := (a0).toInt64) hx hb dX8_isSheet_1 rfl ?_
  refine lv_lconst (v := (0 : Int64)) hx hb dX8_isSheet_2 (by decide) ?_
  refine lv_ldc2 (own := RX8) (v := (3 : Int64)) hx hb hown (hts _ q1421) dX8_isSheet_3 ?_
  refine mm_SI ⟨hx, hb, hml, hown, hts⟩ (mmt_in l _ _ _ _ hw) (va_cwS 3 hts (lw_S q1422 q1423 q120 q1424) rfl rfl rfl cd_X8_in.2 ⟨Nat.le_of_ble_eq_true rfl, Nat.le_of_ble_eq_true rfl⟩) hW hS rfl hl.1 rfl (Nat.le_of_ble_eq_true rfl) dX8_isSheet_6 (fun r2 σ1 H locs hw hW hS => ?_)
  obtain ⟨hz_r2, hw⟩ := hw
  exact gg_zret (mm_mv D cl E A ad) C0 hW hS (hz_r2) hw dX8_isSheet_9
theorem cd_X8_likeSet : yX8_likeSet.cls = RX8 ∧ yX8_likeSet.cls ≠ "java/lang/invoke/MethodHandle" ∧ yX8_likeSet.cls ≠ "java/lang/invoke/VarHandle" ∧ (parseMethodDescriptor yX8_likeSet.desc).map (fun d => d.parameters.length) = some 2 := by decide +kernel
/-! GleanersForGapsModel.likeSet(II)I -/
def mmw_likeSet_32  (Q : Int32 → gg_S → Prop) (K5 : Int32 → Int32 → Int32 → Int32 → gg_S → Prop) (x1 : Int32) (x2 : Int32) (x4 : Int32) (s0 : Int32) (s1 : Int32) (σ : gg_S) : Prop :=
    K5 x1 x2 (s0 ||| (s1 <<< (x4 &&& 31))) (x4 + (1 : Int32)) σ
def mmw_likeSet_5  (Q : Int32 → gg_S → Prop)  : Nat → Int32 → Int32 → Int32 → Int32 → gg_S → Prop
  | 0, _, _, _, _, _ => False
  | n + 1, x1, x2, x3, x4, σ =>
    ((((gg_g σ 0 12) ≤ x4) → Q x3 σ) ∧ (¬ ((gg_g σ 0 12) ≤ x4) → (mmw_firstOther x1 x4 x2 σ (fun r2 σ1 => (((r2 = (-1 : Int32)) → mmw_likeSet_32 Q (fun y0 y1 y2 y3 τ => mmw_likeSet_5 Q n y0 y1 y2 y3 τ) x1 x2 x4 x3 (1 : Int32) σ1) ∧ (¬ (r2 = (-1 : Int32)) → mmw_likeSet_32 Q (fun y0 y1 y2 y3 τ => mmw_likeSet_5 Q n y0 y1 y2 y3 τ) x1 x2 x4 x3 (0 : Int32) σ1))))))
def mmw_likeSet  (a1 : Int32) (a2 : Int32) (σ : gg_S) (Q : Int32 → gg_S → Prop) : Prop :=
    ∃ k9, mmw_likeSet_5 Q k9 a1 a2 (0 : Int32) (0 : Int32) σ
abbrev mmr_likeSet : Room := { frames := 53, cells := 0, slots := 0, locals := 1231 }
set_option maxHeartbeats 4000000 in
set_option maxRecDepth 100000 in
theorem mmk_likeSet_32 {p : Program} {l : Launch} {e : Env} {s : State} {m : MethodId} {args : Array Value} {below : List Frame} {meth : Method} {c : Code} {D : va_G} {cl : List vw_C} {E : ClassId × ClassId} {A : Nat → Prop} {ad : Nat → Nat} {Q : Int32 → gg_S → Prop} {K5 : Int32 → Int32 → Int32 → Int32 → gg_S → Prop}  (C0 : gg_C p s m args meth c RX8 cX8_likeSet 5 (some .int)) (hK5 : ∀ (x1 : Int32) (x2 : Int32) (x3 : Int32) (x4 : Int32) (σ : gg_S) (H : Heap) (locs : List Loc) (ls : Array Slot), K5 x1 x2 x3 x4 σ → mm_W D cl E A ad σ s H → va_S A s.heap H locs → lv_has ls 5 [(0, .ref (ad 0)), (1, .int x1), (2, .int x2), (3, .int x3), (4, .int x4)] → W p l e mmr_likeSet s m args below meth c H locs 0 0 (MQ below (va_Qi Q (fun u t => mm_W D cl E A ad u t t.heap) A) args s 0 0 A) (F0 m 5 ls [])) :
    ∀ (x1 : Int32) (x2 : Int32) (x4 : Int32) (s0 : Int32) (s1 : Int32) (σ : gg_S) (H : Heap) (locs : List Loc) (ls : Array Slot), mmw_likeSet_32 Q K5 x1 x2 x4 s0 s1 σ → mm_W D cl E A ad σ s H → va_S A s.heap H locs → lv_has ls 5 [(0, .ref (ad 0)), (1, .int x1), (2, .int x2), (4, .int x4)] → W p l e mmr_likeSet s m args below meth c H locs 0 0 (MQ below (va_Qi Q (fun u t => mm_W D cl E A ad u t t.heap) A) args s 0 0 A) (F0 m 32 ls [.int s1, .int s0]) := by
  obtain ⟨hx, hb, hml, hown, hts, hr, hlocks⟩ := id C0
  intro x1 x2 x4 s0 s1 σ H locs ls hw hW hS hl
  unfold mmw_likeSet_32 at hw
  refine lv_iload hx hb dX8_likeSet_32 (lv_at hl 3 rfl) ?_
  refine lv_ishl hx hb dX8_likeSet_34 ?_
  refine lv_ior hx hb dX8_likeSet_35 ?_
  refine lv_istore_n (lv' := [(3, .int (s0 ||| (s1 <<< (x4 &&& 31)))), (0, .ref (ad 0)), (1, .int x1), (2, .int x2), (4, .int x4)]) hx hb dX8_likeSet_36 rfl hl (by decide) rfl (fun ls hl => ?_)
  refine lv_iinc (v := (x4 + (1 : Int32))) (lv' := [(4, .int (x4 + (1 : Int32))), (3, .int (s0 ||| (s1 <<< (x4 &&& 31)))), (0, .ref (ad 0)), (1, .int x1), (2, .int x2)]) hx hb dX8_likeSet_37 hl (k := 4) rfl rfl (by decide) rfl (fun ls hl => ?_)
  refine lv_goto (tgt := 5) hx hb dX8_likeSet_40 (by decide) ?_
  exact hK5 x1 x2 (s0 ||| (s1 <<< (x4 &&& 31))) (x4 + (1 : Int32)) σ _ _ _ hw hW hS (lv_sub hl [2, 3, 4, 1, 0] rfl)
set_option maxHeartbeats 4000000 in
set_option maxRecDepth 100000 in
theorem mmk_likeSet_5 {p : Program} {l : Launch} {e : Env} {s : State} {m : MethodId} {args : Array Value} {below : List Frame} {meth : Method} {c : Code} {D : va_G} {cl : List vw_C} {E : ClassId × ClassId} {A : Nat → Prop} {ad : Nat → Nat} {Q : Int32 → gg_S → Prop}   (C0 : gg_C p s m args meth c RX8 cX8_likeSet 5 (some .int))  :
    ∀ n : Nat, ∀ (x1 : Int32) (x2 : Int32) (x3 : Int32) (x4 : Int32) (σ : gg_S) (H : Heap) (locs : List Loc) (ls : Array Slot), mmw_likeSet_5 Q n x1 x2 x3 x4 σ → mm_W D cl E A ad σ s H → va_S A s.heap H locs → lv_has ls 5 [(0, .ref (ad 0)), (1, .int x1), (2, .int x2), (3, .int x3), (4, .int x4)] → W p l e mmr_likeSet s m args below meth c H locs 0 0 (MQ below (va_Qi Q (fun u t => mm_W D cl E A ad u t t.heap) A) args s 0 0 A) (F0 m 5 ls []) := by
  obtain ⟨hx, hb, hml, hown, hts, hr, hlocks⟩ := id C0
  intro n
  induction n with
  | zero =>
    intro x1 x2 x3 x4 σ H locs ls hw hW hS hl
    exact absurd hw (by unfold mmw_likeSet_5; exact id)
  | succ n ih =>
    intro x1 x2 x3 x4 σ H locs ls hw hW hS hl
    unfold mmw_likeSet_5 at hw
    refine lv_iload hx hb dX8_likeSet_5 (lv_at hl 4 rfl) ?_
    refine lv_aload_n hx hb dX8_likeSet_7 rfl (lv_at hl 0 rfl) ?_
    refine mm_geti hx hb hts hown hW 12 (by decide) q1283 dX8_likeSet_8 ?_
    refine lv_icmp_ge (tgt := 43) hx hb dX8_likeSet_11 (by decide) (fun c4 => ?_) (fun c4 => ?_)
    · have hw := hw.1 c4
      refine lv_iload_n hx hb dX8_likeSet_43 rfl (lv_at hl 3 rfl) ?_
      exact gg_iret (mm_mv D cl E A ad) C0 hW hS hw dX8_likeSet_44
    · have hw := hw.2 c4
      refine lv_iload_n hx hb dX8_likeSet_14 rfl (lv_at hl 3 rfl) ?_
      refine lv_aload_n hx hb dX8_likeSet_15 rfl (lv_at hl 0 rfl) ?_
      refine lv_iload_n hx hb dX8_likeSet_16 rfl (lv_at hl 1 rfl) ?_
      refine lv_iload hx hb dX8_likeSet_17 (lv_at hl 4 rfl) ?_
      refine lv_iload_n hx hb dX8_likeSet_19 rfl (lv_at hl 2 rfl) ?_
      refine mm_VI ⟨hx, hb, hml, hown, hts⟩ (mmt_firstOther l _ _ _ _ hw) (cwV 3 hts (lw_V q1685 q1687 qs98 q120 q1688) rfl rfl rfl cd_X8_firstOther ⟨Nat.le_of_ble_eq_true rfl, Nat.le_of_ble_eq_true rfl⟩) hW (mm_recv hW) hS rfl hl.1 rfl (Nat.le_of_ble_eq_true rfl) dX8_likeSet_20 (fun r2 σ1 H locs hw hW hS => ?_)
      refine lv_iconst (v := (-1 : Int32)) hx hb dX8_likeSet_23 (by decide) ?_
      refine lv_icmp_ne (tgt := 31) hx hb dX8_likeSet_24 (by decide) (fun c3 => ?_) (fun c3 => ?_)
      · have hw := hw.2 c3
        refine lv_iconst (v := (0 : Int32)) hx hb dX8_likeSet_31 (by decide) ?_
        exact mmk_likeSet_32  C0  (fun y0 y1 y2 y3 τ H9 l9 s9 => ih y0 y1 y2 y3 τ H9 l9 s9) x1 x2 x4 x3 (0 : Int32) σ1 _ _ _ hw hW hS (lv_sub hl [0, 1, 2, 4] rfl)
      · have hw := hw.1 c3
        refine lv_iconst (v := (1 : Int32)) hx hb dX8_likeSet_27 (by decide) ?_
        refine lv_goto (tgt := 32) hx hb dX8_likeSet_28 (by decide) ?_
        exact mmk_likeSet_32  C0  (fun y0 y1 y2 y3 τ H9 l9 s9 => ih y0 y1 y2 y3 τ H9 l9 s9) x1 x2 x4 x3 (1 : Int32) σ1 _ _ _ hw hW hS (lv_sub hl [0, 1, 2, 4] rfl)
set_option maxHeartbeats 4000000 in
set_option maxRecDepth 100000 in
theorem mmt_likeSet (l : Launch) {D : va_G} {cl : List vw_C} {E : ClassId × ClassId} {A : Nat → Prop} {ad : Nat → Nat}  (a1 : Int32) (a2 : Int32) (σ : gg_S) {Q : Int32 → gg_S → Prop} (hw : mmw_likeSet a1 a2 σ Q) :
    Met l yX8_likeSet (ws_ yX8_likeSet cX8_likeSet 5 (some .int)) mmr_likeSet (va_Pc [.ref (ad 0), .int a1, .int a2] (fun U => mm_W D cl E A ad σ U U.heap)) (va_Qi Q (fun u t => mm_W D cl E A ad u t t.heap) A) 0 0 A := by
  refine gg_entry (W0 := fun s H => mm_W D cl E A ad σ s H) (by decide) (Nat.le_of_ble_eq_true rfl) ?_
  intro p e s m args below meth c C0 hW ls hl
  have C0 : gg_C p s m args meth c RX8 cX8_likeSet 5 (some .int) := C0
  obtain ⟨hx, hb, hml, hown, hts, hr, hlocks⟩ := id C0
  have hl : lv_has ls 5 [(0, .ref (ad 0)), (1, .int a1), (2, .int a2)] := hl
  have hS : va_S A s.heap s.heap [] := va_S.rf
  unfold mmw_likeSet at hw
  refine lv_iconst (v := (0 : Int32)) hx hb dX8_likeSet_0 (by decide) ?_
  refine lv_istore_n (lv' := [(3, .int (0 : Int32)), (0, .ref (ad 0)), (1, .int a1), (2, .int a2)]) hx hb dX8_likeSet_1 rfl hl (by decide) rfl (fun ls hl => ?_)
  refine lv_iconst (v := (0 : Int32)) hx hb dX8_likeSet_2 (by decide) ?_
  refine lv_istore (lv' := [(4, .int (0 : Int32)), (3, .int (0 : Int32)), (0, .ref (ad 0)), (1, .int a1), (2, .int a2)]) hx hb dX8_likeSet_3 hl (by decide) rfl (fun ls hl => ?_)
  obtain ⟨n9, hw⟩ := hw
  exact mmk_likeSet_5  C0   n9 a1 a2 (0 : Int32) (0 : Int32) σ _ _ _ hw hW hS (lv_sub hl [2, 3, 4, 1, 0] rfl)
theorem cd_X8_rowSet : yX8_rowSet.cls = RX8 ∧ yX8_rowSet.cls ≠ "java/lang/invoke/MethodHandle" ∧ yX8_rowSet.cls ≠ "java/lang/invoke/VarHandle" ∧ (parseMethodDescriptor yX8_rowSet.desc).map (fun d => d.parameters.length) = some 2 := by decide +kernel
/-! GleanersForGapsModel.rowSet(II)I -/
def mmw_rowSet_44  (Q : Int32 → gg_S → Prop) (K5 : Int32 → Int32 → Int32 → Int32 → gg_S → Prop) (x1 : Int32) (x2 : Int32) (x4 : Int32) (s0 : Int32) (s1 : Int32) (σ : gg_S) : Prop :=
    K5 x1 x2 (s0 ||| (s1 <<< (x4 &&& 31))) (x4 + (1 : Int32)) σ
def mmw_rowSet_43  (Q : Int32 → gg_S → Prop) (K5 : Int32 → Int32 → Int32 → Int32 → gg_S → Prop) (x1 : Int32) (x2 : Int32) (x4 : Int32) (s0 : Int32) (σ : gg_S) : Prop :=
    mmw_rowSet_44 Q K5 x1 x2 x4 s0 (0 : Int32) σ
def mmw_rowSet_5  (Q : Int32 → gg_S → Prop)  : Nat → Int32 → Int32 → Int32 → Int32 → gg_S → Prop
  | 0, _, _, _, _, _ => False
  | n + 1, x1, x2, x3, x4, σ =>
    ((((4 : Int32) ≤ x4) → Q x3 σ) ∧ (¬ ((4 : Int32) ≤ x4) → (mmw_runsOf x4 σ (fun r2 σ1 => vp_in x1 4 ∧ (((r2 < (gg_g σ1 20 x1.toNatClampNeg)) → mmw_rowSet_43 Q (fun y0 y1 y2 y3 τ => mmw_rowSet_5 Q n y0 y1 y2 y3 τ) x1 x2 x4 x3 σ1) ∧ (¬ (r2 < (gg_g σ1 20 x1.toNatClampNeg)) → (mmw_firstOther x1 x2 x4 σ1 (fun r4 σ3 => (((r4 = (-1 : Int32)) → mmw_rowSet_44 Q (fun y0 y1 y2 y3 τ => mmw_rowSet_5 Q n y0 y1 y2 y3 τ) x1 x2 x4 x3 (1 : Int32) σ3) ∧ (¬ (r4 = (-1 : Int32)) → mmw_rowSet_43 Q (fun y0 y1 y2 y3 τ => mmw_rowSet_5 Q n y0 y1 y2 y3 τ) x1 x2 x4 x3 σ3))))))))))
def mmw_rowSet  (a1 : Int32) (a2 : Int32) (σ : gg_S) (Q : Int32 → gg_S → Prop) : Prop :=
    ∃ k9, mmw_rowSet_5 Q k9 a1 a2 (0 : Int32) (0 : Int32) σ
abbrev mmr_rowSet : Room := { frames := 53, cells := 0, slots := 0, locals := 1231 }
set_option maxHeartbeats 4000000 in
set_option maxRecDepth 100000 in
theorem mmk_rowSet_44 {p : Program} {l : Launch} {e : Env} {s : State} {m : MethodId} {args : Array Value} {below : List Frame} {meth : Method} {c : Code} {D : va_G} {cl : List vw_C} {E : ClassId × ClassId} {A : Nat → Prop} {ad : Nat → Nat} {Q : Int32 → gg_S → Prop} {K5 : Int32 → Int32 → Int32 → Int32 → gg_S → Prop}  (C0 : gg_C p s m args meth c RX8 cX8_rowSet 5 (some .int)) (hK5 : ∀ (x1 : Int32) (x2 : Int32) (x3 : Int32) (x4 : Int32) (σ : gg_S) (H : Heap) (locs : List Loc) (ls : Array Slot), K5 x1 x2 x3 x4 σ → mm_W D cl E A ad σ s H → va_S A s.heap H locs → lv_has ls 5 [(0, .ref (ad 0)), (1, .int x1), (2, .int x2), (3, .int x3), (4, .int x4)] → W p l e mmr_rowSet s m args below meth c H locs 0 0 (MQ below (va_Qi Q (fun u t => mm_W D cl E A ad u t t.heap) A) args s 0 0 A) (F0 m 5 ls [])) :
    ∀ (x1 : Int32) (x2 : Int32) (x4 : Int32) (s0 : Int32) (s1 : Int32) (σ : gg_S) (H : Heap) (locs : List Loc) (ls : Array Slot), mmw_rowSet_44 Q K5 x1 x2 x4 s0 s1 σ → mm_W D cl E A ad σ s H → va_S A s.heap H locs → lv_has ls 5 [(0, .ref (ad 0)), (1, .int x1), (2, .int x2), (4, .int x4)] → W p l e mmr_rowSet s m args below meth c H locs 0 0 (MQ below (va_Qi Q (fun u t => mm_W D cl E A ad u t t.heap) A) args s 0 0 A) (F0 m 44 ls [.int s1, .int s0]) := by
  obtain ⟨hx, hb, hml, hown, hts, hr, hlocks⟩ := id C0
  intro x1 x2 x4 s0 s1 σ H locs ls hw hW hS hl
  unfold mmw_rowSet_44 at hw
  refine lv_iload hx hb dX8_rowSet_44 (lv_at hl 3 rfl) ?_
  refine lv_ishl hx hb dX8_rowSet_46 ?_
  refine lv_ior hx hb dX8_rowSet_47 ?_
  refine lv_istore_n (lv' := [(3, .int (s0 ||| (s1 <<< (x4 &&& 31)))), (0, .ref (ad 0)), (1, .int x1), (2, .int x2), (4, .int x4)]) hx hb dX8_rowSet_48 rfl hl (by decide) rfl (fun ls hl => ?_)
  refine lv_iinc (v := (x4 + (1 : Int32))) (lv' := [(4, .int (x4 + (1 : Int32))), (3, .int (s0 ||| (s1 <<< (x4 &&& 31)))), (0, .ref (ad 0)), (1, .int x1), (2, .int x2)]) hx hb dX8_rowSet_49 hl (k := 4) rfl rfl (by decide) rfl (fun ls hl => ?_)
  refine lv_goto (tgt := 5) hx hb dX8_rowSet_52 (by decide) ?_
  exact hK5 x1 x2 (s0 ||| (s1 <<< (x4 &&& 31))) (x4 + (1 : Int32)) σ _ _ _ hw hW hS (lv_sub hl [2, 3, 4, 1, 0] rfl)
set_option maxHeartbeats 4000000 in
set_option maxRecDepth 100000 in
theorem mmk_rowSet_43 {p : Program} {l : Launch} {e : Env} {s : State} {m : MethodId} {args : Array Value} {below : List Frame} {meth : Method} {c : Code} {D : va_G} {cl : List vw_C} {E : ClassId × ClassId} {A : Nat → Prop} {ad : Nat → Nat} {Q : Int32 → gg_S → Prop} {K5 : Int32 → Int32 → Int32 → Int32 → gg_S → Prop}  (C0 : gg_C p s m args meth c RX8 cX8_rowSet 5 (some .int)) (hK5 : ∀ (x1 : Int32) (x2 : Int32) (x3 : Int32) (x4 : Int32) (σ : gg_S) (H : Heap) (locs : List Loc) (ls : Array Slot), K5 x1 x2 x3 x4 σ → mm_W D cl E A ad σ s H → va_S A s.heap H locs → lv_has ls 5 [(0, .ref (ad 0)), (1, .int x1), (2, .int x2), (3, .int x3), (4, .int x4)] → W p l e mmr_rowSet s m args below meth c H locs 0 0 (MQ below (va_Qi Q (fun u t => mm_W D cl E A ad u t t.heap) A) args s 0 0 A) (F0 m 5 ls [])) :
    ∀ (x1 : Int32) (x2 : Int32) (x4 : Int32) (s0 : Int32) (σ : gg_S) (H : Heap) (locs : List Loc) (ls : Array Slot), mmw_rowSet_43 Q K5 x1 x2 x4 s0 σ → mm_W D cl E A ad σ s H → va_S A s.heap H locs → lv_has ls 5 [(0, .ref (ad 0)), (1, .int x1), (2, .int x2), (4, .int x4)] → W p l e mmr_rowSet s m args below meth c H locs 0 0 (MQ below (va_Qi Q (fun u t => mm_W D cl E A ad u t t.heap) A) args s 0 0 A) (F0 m 43 ls [.int s0]) := by
  obtain ⟨hx, hb, hml, hown, hts, hr, hlocks⟩ := id C0
  intro x1 x2 x4 s0 σ H locs ls hw hW hS hl
  unfold mmw_rowSet_43 at hw
  refine lv_iconst (v := (0 : Int32)) hx hb dX8_rowSet_43 (by decide) ?_
  exact mmk_rowSet_44  C0  hK5 x1 x2 x4 s0 (0 : Int32) σ _ _ _ hw hW hS (hl)
set_option maxHeartbeats 4000000 in
set_option maxRecDepth 100000 in
theorem mmk_rowSet_5 {p : Program} {l : Launch} {e : Env} {s : State} {m : MethodId} {args : Array Value} {below : List Frame} {meth : Method} {c : Code} {D : va_G} {cl : List vw_C} {E : ClassId × ClassId} {A : Nat → Prop} {ad : Nat → Nat} {Q : Int32 → gg_S → Prop}   (C0 : gg_C p s m args meth c RX8 cX8_rowSet 5 (some .int))  :
    ∀ n : Nat, ∀ (x1 : Int32) (x2 : Int32) (x3 : Int32) (x4 : Int32) (σ : gg_S) (H : Heap) (locs : List Loc) (ls : Array Slot), mmw_rowSet_5 Q n x1 x2 x3 x4 σ → mm_W D cl E A ad σ s H → va_S A s.heap H locs → lv_has ls 5 [(0, .ref (ad 0)), (1, .int x1), (2, .int x2), (3, .int x3), (4, .int x4)] → W p l e mmr_rowSet s m args below meth c H locs 0 0 (MQ below (va_Qi Q (fun u t => mm_W D cl E A ad u t t.heap) A) args s 0 0 A) (F0 m 5 ls []) := by
  obtain ⟨hx, hb, hml, hown, hts, hr, hlocks⟩ := id C0
  intro n
  induction n with
  | zero =>
    intro x1 x2 x3 x4 σ H locs ls hw hW hS hl
    exact absurd hw (by unfold mmw_rowSet_5; exact id)
  | succ n ih =>
    intro x1 x2 x3 x4 σ H locs ls hw hW hS hl
    unfold mmw_rowSet_5 at hw
    refine lv_iload hx hb dX8_rowSet_5 (lv_at hl 4 rfl) ?_
    refine lv_iconst (v := (4 : Int32)) hx hb dX8_rowSet_7 (by decide) ?_
    refine lv_icmp_ge (tgt := 55) hx hb dX8_rowSet_8 (by decide) (fun c7 => ?_) (fun c7 => ?_)
    · have hw := hw.1 c7
      refine lv_iload_n hx hb dX8_rowSet_55 rfl (lv_at hl 3 rfl) ?_
      exact gg_iret (mm_mv D cl E A ad) C0 hW hS hw dX8_rowSet_56
    · have hw := hw.2 c7
      refine lv_iload_n hx hb dX8_rowSet_11 rfl (lv_at hl 3 rfl) ?_
      refine lv_aload_n hx hb dX8_rowSet_12 rfl (lv_at hl 0 rfl) ?_
      refine lv_iload hx hb dX8_rowSet_13 (lv_at hl 4 rfl) ?_
      refine mm_VI ⟨hx, hb, hml, hown, hts⟩ (mmt_runsOf l _ _ hw) (cwV 1 hts (lw_V q1531 q1533 qs80 q120 q1534) rfl rfl rfl cd_X8_runsOf ⟨Nat.le_of_ble_eq_true rfl, Nat.le_of_ble_eq_true rfl⟩) hW (mm_recv hW) hS rfl hl.1 rfl (Nat.le_of_ble_eq_true rfl) dX8_rowSet_15 (fun r2 σ1 H locs hw hW hS => ?_)
      refine lv_aload_n hx hb dX8_rowSet_18 rfl (lv_at hl 0 rfl) ?_
      refine mm_getr hx hb hts hown hW 45 20 (by decide) q1316 dX8_rowSet_19 ?_
      refine lv_iload_n hx hb dX8_rowSet_22 rfl (lv_at hl 1 rfl) ?_
      obtain ⟨hin, hw⟩ := hw
      refine mm_ald hx hb hW 19 (by decide) hin dX8_rowSet_23 ?_
      refine lv_icmp_lt (tgt := 43) hx hb dX8_rowSet_24 (by decide) (fun c6 => ?_) (fun c6 => ?_)
      · have hw := hw.1 c6
        exact mmk_rowSet_43  C0  (fun y0 y1 y2 y3 τ H9 l9 s9 => ih y0 y1 y2 y3 τ H9 l9 s9) x1 x2 x4 x3 σ1 _ _ _ hw hW hS (lv_sub hl [0, 1, 2, 4] rfl)
      · have hw := hw.2 c6
        refine lv_aload_n hx hb dX8_rowSet_27 rfl (lv_at hl 0 rfl) ?_
        refine lv_iload_n hx hb dX8_rowSet_28 rfl (lv_at hl 1 rfl) ?_
        refine lv_iload_n hx hb dX8_rowSet_29 rfl (lv_at hl 2 rfl) ?_
        refine lv_iload hx hb dX8_rowSet_30 (lv_at hl 4 rfl) ?_
        refine mm_VI ⟨hx, hb, hml, hown, hts⟩ (mmt_firstOther l _ _ _ _ hw) (cwV 3 hts (lw_V q1685 q1687 qs98 q120 q1688) rfl rfl rfl cd_X8_firstOther ⟨Nat.le_of_ble_eq_true rfl, Nat.le_of_ble_eq_true rfl⟩) hW (mm_recv hW) hS rfl hl.1 rfl (Nat.le_of_ble_eq_true rfl) dX8_rowSet_32 (fun r4 σ3 H locs hw hW hS => ?_)
        refine lv_iconst (v := (-1 : Int32)) hx hb dX8_rowSet_35 (by decide) ?_
        refine lv_icmp_ne (tgt := 43) hx hb dX8_rowSet_36 (by decide) (fun c5 => ?_) (fun c5 => ?_)
        · have hw := hw.2 c5
          exact mmk_rowSet_43  C0  (fun y0 y1 y2 y3 τ H9 l9 s9 => ih y0 y1 y2 y3 τ H9 l9 s9) x1 x2 x4 x3 σ3 _ _ _ hw hW hS (lv_sub hl [0, 1, 2, 4] rfl)
        · have hw := hw.1 c5
          refine lv_iconst (v := (1 : Int32)) hx hb dX8_rowSet_39 (by decide) ?_
          refine lv_goto (tgt := 44) hx hb dX8_rowSet_40 (by decide) ?_
          exact mmk_rowSet_44  C0  (fun y0 y1 y2 y3 τ H9 l9 s9 => ih y0 y1 y2 y3 τ H9 l9 s9) x1 x2 x4 x3 (1 : Int32) σ3 _ _ _ hw hW hS (lv_sub hl [0, 1, 2, 4] rfl)
set_option maxHeartbeats 4000000 in
set_option maxRecDepth 100000 in
theorem mmt_rowSet (l : Launch) {D : va_G} {cl : List vw_C} {E : ClassId × ClassId} {A : Nat → Prop} {ad : Nat → Nat}  (a1 : Int32) (a2 : Int32) (σ : gg_S) {Q : Int32 → gg_S → Prop} (hw : mmw_rowSet a1 a2 σ Q) :
    Met l yX8_rowSet (ws_ yX8_rowSet cX8_rowSet 5 (some .int)) mmr_rowSet (va_Pc [.ref (ad 0), .int a1, .int a2] (fun U => mm_W D cl E A ad σ U U.heap)) (va_Qi Q (fun u t => mm_W D cl E A ad u t t.heap) A) 0 0 A := by
  refine gg_entry (W0 := fun s H => mm_W D cl E A ad σ s H) (by decide) (Nat.le_of_ble_eq_true rfl) ?_
  intro p e s m args below meth c C0 hW ls hl
  have C0 : gg_C p s m args meth c RX8 cX8_rowSet 5 (some .int) := C0
  obtain ⟨hx, hb, hml, hown, hts, hr, hlocks⟩ := id C0
  have hl : lv_has ls 5 [(0, .ref (ad 0)), (1, .int a1), (2, .int a2)] := hl
  have hS : va_S A s.heap s.heap [] := va_S.rf
  unfold mmw_rowSet at hw
  refine lv_iconst (v := (0 : Int32)) hx hb dX8_rowSet_0 (by decide) ?_
  refine lv_istore_n (lv' := [(3, .int (0 : Int32)), (0, .ref (ad 0)), (1, .int a1), (2, .int a2)]) hx hb dX8_rowSet_1 rfl hl (by decide) rfl (fun ls hl => ?_)
  refine lv_iconst (v := (0 : Int32)) hx hb dX8_rowSet_2 (by decide) ?_
  refine lv_istore (lv' := [(4, .int (0 : Int32)), (3, .int (0 : Int32)), (0, .ref (ad 0)), (1, .int a1), (2, .int a2)]) hx hb dX8_rowSet_3 hl (by decide) rfl (fun ls hl => ?_)
  obtain ⟨n9, hw⟩ := hw
  exact mmk_rowSet_5  C0   n9 a1 a2 (0 : Int32) (0 : Int32) σ _ _ _ hw hW hS (lv_sub hl [2, 3, 4, 1, 0] rfl)
theorem cd_X8_tells : yX8_tells.cls = RX8 ∧ yX8_tells.cls ≠ "java/lang/invoke/MethodHandle" ∧ yX8_tells.cls ≠ "java/lang/invoke/VarHandle" ∧ (parseMethodDescriptor yX8_tells.desc).map (fun d => d.parameters.length) = some 4 := by decide +kernel
/-! GleanersForGapsModel.tells(IIII)I -/
def mmw_tells_259  (Q : Int32 → gg_S → Prop) (K217 : Int32 → Int32 → Int32 → Int32 → Int32 → Int32 → Int32 → Int32 → Int32 → Int32 → gg_S → Prop) (x1 : Int32) (x2 : Int32) (x3 : Int32) (x4 : Int32) (x5 : Int32) (x6 : Int32) (x9 : Int32) (x11 : Int32) (s0 : Int32) (s1 : Int32) (σ : gg_S) : Prop :=
    K217 x1 x2 x3 x4 x5 x6 (s0 ||| s1) (x9 + (1 : Int32)) x11 (x11 + (-1 : Int32)) σ
def mmw_tells_217  (Q : Int32 → gg_S → Prop)  : Nat → Int32 → Int32 → Int32 → Int32 → Int32 → Int32 → Int32 → Int32 → Int32 → Int32 → gg_S → Prop
  | 0, _, _, _, _, _, _, _, _, _, _, _ => False
  | n + 1, x1, x2, x3, x4, x5, x6, x8, x9, x10, x11, σ =>
    (((x11 < 0) → (mmw_lays x5 x2 x6 σ (fun σ13 => (((x4 = (3 : Int32)) → Q x9 σ13) ∧ (¬ (x4 = (3 : Int32)) → (((x4 = (4 : Int32)) → Q x10 σ13) ∧ (¬ (x4 = (4 : Int32)) → Q x8 σ13))))))) ∧ (¬ (x11 < 0) → (mmw_lays x5 x2 x11 σ (fun σ16 => (mmw_firstOther x1 x2 x3 σ16 (fun r18 σ17 => (((r18 = (-1 : Int32)) → ((((10 : Int32) ≤ x11) → mmw_tells_259 Q (fun y0 y1 y2 y3 y4 y5 y6 y7 y8 y9 τ => mmw_tells_217 Q n y0 y1 y2 y3 y4 y5 y6 y7 y8 y9 τ) x1 x2 x3 x4 x5 x6 x9 x11 x8 (0 : Int32) σ17) ∧ (¬ ((10 : Int32) ≤ x11) → mmw_tells_259 Q (fun y0 y1 y2 y3 y4 y5 y6 y7 y8 y9 τ => mmw_tells_217 Q n y0 y1 y2 y3 y4 y5 y6 y7 y8 y9 τ) x1 x2 x3 x4 x5 x6 x9 x11 x8 ((1 : Int32) <<< (x11 &&& 31)) σ17))) ∧ (¬ (r18 = (-1 : Int32)) → mmw_tells_217 Q n x1 x2 x3 x4 x5 x6 x8 x9 x10 (x11 + (-1 : Int32)) σ17))))))))
def mmw_tells_202  (Q : Int32 → gg_S → Prop)  (x1 : Int32) (x2 : Int32) (x3 : Int32) (x4 : Int32) (x5 : Int32) (x6 : Int32) (s0 : Int32) (σ : gg_S) : Prop :=
    ∃ k9, mmw_tells_217 Q k9 x1 x2 x3 x4 x5 x6 (0 : Int32) (0 : Int32) (-1 : Int32) s0 σ
def mmw_tells_162  (Q : Int32 → gg_S → Prop)  (x1 : Int32) (x2 : Int32) (x3 : Int32) (x4 : Int32) (x5 : Int32) (s0 : Int32) (σ : gg_S) : Prop :=
    (((x5 = (4 : Int32)) → mmw_tells_202 Q x1 x2 x3 x4 x5 s0 ((gg_g σ 0 3) - (1 : Int32)) σ) ∧ (¬ (x5 = (4 : Int32)) → (((x5 = (3 : Int32)) → mmw_tells_202 Q x1 x2 x3 x4 x5 s0 (5 : Int32) σ) ∧ (¬ (x5 = (3 : Int32)) → (((x5 = (1 : Int32)) → mmw_tells_202 Q x1 x2 x3 x4 x5 s0 (9 : Int32) σ) ∧ (¬ (x5 = (1 : Int32)) → mmw_tells_202 Q x1 x2 x3 x4 x5 s0 (99 : Int32) σ))))))
def mmw_tells_140  (Q : Int32 → gg_S → Prop)  (x1 : Int32) (x2 : Int32) (x3 : Int32) (x4 : Int32) (s0 : Int32) (σ : gg_S) : Prop :=
    (((s0 = (4 : Int32)) → mmw_tells_162 Q x1 x2 x3 x4 s0 (gg_g σ 0 4) σ) ∧ (¬ (s0 = (4 : Int32)) → (mmw_told x2 s0 σ (fun r12 σ11 => mmw_tells_162 Q x1 x2 x3 x4 s0 r12 σ11))))
def mmw_tells  (a1 : Int32) (a2 : Int32) (a3 : Int32) (a4 : Int32) (σ : gg_S) (Q : Int32 → gg_S → Prop) : Prop :=
    (mmw_isSheet a1 σ (fun r2 σ1 => (((r2 = 0) → Q (-2 : Int32) σ1) ∧ (¬ (r2 = 0) → (mmw_isOne a2 σ1 (fun r4 σ3 => (((r4 = 0) → Q (-2 : Int32) σ3) ∧ (¬ (r4 = 0) → (mmw_isRow a3 σ3 (fun r6 σ5 => (((r6 = 0) → Q (-2 : Int32) σ5) ∧ (¬ (r6 = 0) → (mmw_in ((a4).toInt64) (0 : Int64) (7 : Int64) σ5 (fun r8 σ7 => (((r8 = 0) → Q (-2 : Int32) σ7) ∧ (¬ (r8 = 0) → vp_in a1 4 ∧ ((((gg_g σ7 18 a1.toNatClampNeg) = 0) → Q (-11 : Int32) σ7) ∧ (¬ ((gg_g σ7 18 a1.toNatClampNeg) = 0) → vp_in a1 4 ∧ (mmw_runsOf a3 σ7 (fun r10 σ9 => ((((gg_g σ7 20 a1.toNatClampNeg) ≤ r10) → (((a4 = 0) → (mmw_firstOther a1 a2 a3 σ9 (fun r36 σ35 => Q r36 σ35))) ∧ (¬ (a4 = 0) → (((a4 ≤ (5 : Int32)) → (((a4 = (1 : Int32)) → mmw_tells_140 Q a1 a2 a3 a4 (3 : Int32) σ9) ∧ (¬ (a4 = (1 : Int32)) → (((a4 = (2 : Int32)) → mmw_tells_140 Q a1 a2 a3 a4 (1 : Int32) σ9) ∧ (¬ (a4 = (2 : Int32)) → (((a4 = (5 : Int32)) → mmw_tells_140 Q a1 a2 a3 a4 (4 : Int32) σ9) ∧ (¬ (a4 = (5 : Int32)) → mmw_tells_140 Q a1 a2 a3 a4 (2 : Int32) σ9))))))) ∧ (¬ (a4 ≤ (5 : Int32)) → (((a4 = (6 : Int32)) → (mmw_likeSet a1 a3 σ9 (fun r32 σ31 => Q r32 σ31))) ∧ (¬ (a4 = (6 : Int32)) → (mmw_rowSet a1 a2 σ9 (fun r30 σ29 => Q r30 σ29))))))))) ∧ (¬ ((gg_g σ7 20 a1.toNatClampNeg) ≤ r10) → Q (-2 : Int32) σ9))))))))))))))))))))))
abbrev mmr_tells : Room := { frames := 54, cells := 0, slots := 0, locals := 1255 }
set_option maxHeartbeats 4000000 in
set_option maxRecDepth 100000 in
theorem mmk_tells_259 {p : Program} {l : Launch} {e : Env} {s : State} {m : MethodId} {args : Array Value} {below : List Frame} {meth : Method} {c : Code} {D : va_G} {cl : List vw_C} {E : ClassId × ClassId} {A : Nat → Prop} {ad : Nat → Nat} {Q : Int32 → gg_S → Prop} {K217 : Int32 → Int32 → Int32 → Int32 → Int32 → Int32 → Int32 → Int32 → Int32 → Int32 → gg_S → Prop}  (C0 : gg_C p s m args meth c RX8 cX8_tells 12 (some .int)) (hK217 : ∀ (x1 : Int32) (x2 : Int32) (x3 : Int32) (x4 : Int32) (x5 : Int32) (x6 : Int32) (x8 : Int32) (x9 : Int32) (x10 : Int32) (x11 : Int32) (σ : gg_S) (H : Heap) (locs : List Loc) (ls : Array Slot), K217 x1 x2 x3 x4 x5 x6 x8 x9 x10 x11 σ → mm_W D cl E A ad σ s H → va_S A s.heap H locs → lv_has ls 12 [(0, .ref (ad 0)), (1, .int x1), (2, .int x2), (3, .int x3), (4, .int x4), (5, .int x5), (6, .int x6), (8, .int x8), (9, .int x9), (10, .int x10), (11, .int x11)] → W p l e mmr_tells s m args below meth c H locs 0 0 (MQ below (va_Qi Q (fun u t => mm_W D cl E A ad u t t.heap) A) args s 0 0 A) (F0 m 217 ls [])) :
    ∀ (x1 : Int32) (x2 : Int32) (x3 : Int32) (x4 : Int32) (x5 : Int32) (x6 : Int32) (x9 : Int32) (x11 : Int32) (s0 : Int32) (s1 : Int32) (σ : gg_S) (H : Heap) (locs : List Loc) (ls : Array Slot), mmw_tells_259 Q K217 x1 x2 x3 x4 x5 x6 x9 x11 s0 s1 σ → mm_W D cl E A ad σ s H → va_S A s.heap H locs → lv_has ls 12 [(0, .ref (ad 0)), (1, .int x1), (2, .int x2), (3, .int x3), (4, .int x4), (5, .int x5), (6, .int x6), (9, .int x9), (11, .int x11)] → W p l e mmr_tells s m args below meth c H locs 0 0 (MQ below (va_Qi Q (fun u t => mm_W D cl E A ad u t t.heap) A) args s 0 0 A) (F0 m 259 ls [.int s1, .int s0]) := by
  obtain ⟨hx, hb, hml, hown, hts, hr, hlocks⟩ := id C0
  intro x1 x2 x3 x4 x5 x6 x9 x11 s0 s1 σ H locs ls hw hW hS hl
  unfold mmw_tells_259 at hw
  refine lv_ior hx hb dX8_tells_259 ?_
  refine lv_istore (lv' := [(8, .int (s0 ||| s1)), (0, .ref (ad 0)), (1, .int x1), (2, .int x2), (3, .int x3), (4, .int x4), (5, .int x5), (6, .int x6), (9, .int x9), (11, .int x11)]) hx hb dX8_tells_260 hl (by decide) rfl (fun ls hl => ?_)
  refine lv_iinc (v := (x9 + (1 : Int32))) (lv' := [(9, .int (x9 + (1 : Int32))), (8, .int (s0 ||| s1)), (0, .ref (ad 0)), (1, .int x1), (2, .int x2), (3, .int x3), (4, .int x4), (5, .int x5), (6, .int x6), (11, .int x11)]) hx hb dX8_tells_262 hl (k := 8) rfl rfl (by decide) rfl (fun ls hl => ?_)
  refine lv_iload hx hb dX8_tells_265 (lv_at hl 9 rfl) ?_
  refine lv_istore (lv' := [(10, .int x11), (9, .int (x9 + (1 : Int32))), (8, .int (s0 ||| s1)), (0, .ref (ad 0)), (1, .int x1), (2, .int x2), (3, .int x3), (4, .int x4), (5, .int x5), (6, .int x6), (11, .int x11)]) hx hb dX8_tells_267 hl (by decide) rfl (fun ls hl => ?_)
  refine lv_iinc (v := (x11 + (-1 : Int32))) (lv' := [(11, .int (x11 + (-1 : Int32))), (10, .int x11), (9, .int (x9 + (1 : Int32))), (8, .int (s0 ||| s1)), (0, .ref (ad 0)), (1, .int x1), (2, .int x2), (3, .int x3), (4, .int x4), (5, .int x5), (6, .int x6)]) hx hb dX8_tells_269 hl (k := 10) rfl rfl (by decide) rfl (fun ls hl => ?_)
  refine lv_goto (tgt := 217) hx hb dX8_tells_272 (by decide) ?_
  exact hK217 x1 x2 x3 x4 x5 x6 (s0 ||| s1) (x9 + (1 : Int32)) x11 (x11 + (-1 : Int32)) σ _ _ _ hw hW hS (lv_sub hl [4, 5, 6, 7, 8, 9, 10, 3, 2, 1, 0] rfl)
set_option maxHeartbeats 4000000 in
set_option maxRecDepth 100000 in
theorem mmk_tells_217 {p : Program} {l : Launch} {e : Env} {s : State} {m : MethodId} {args : Array Value} {below : List Frame} {meth : Method} {c : Code} {D : va_G} {cl : List vw_C} {E : ClassId × ClassId} {A : Nat → Prop} {ad : Nat → Nat} {Q : Int32 → gg_S → Prop}   (C0 : gg_C p s m args meth c RX8 cX8_tells 12 (some .int))  :
    ∀ n : Nat, ∀ (x1 : Int32) (x2 : Int32) (x3 : Int32) (x4 : Int32) (x5 : Int32) (x6 : Int32) (x8 : Int32) (x9 : Int32) (x10 : Int32) (x11 : Int32) (σ : gg_S) (H : Heap) (locs : List Loc) (ls : Array Slot), mmw_tells_217 Q n x1 x2 x3 x4 x5 x6 x8 x9 x10 x11 σ → mm_W D cl E A ad σ s H → va_S A s.heap H locs → lv_has ls 12 [(0, .ref (ad 0)), (1, .int x1), (2, .int x2), (3, .int x3), (4, .int x4), (5, .int x5), (6, .int x6), (8, .int x8), (9, .int x9), (10, .int x10), (11, .int x11)] → W p l e mmr_tells s m args below meth c H locs 0 0 (MQ below (va_Qi Q (fun u t => mm_W D cl E A ad u t t.heap) A) args s 0 0 A) (F0 m 217 ls []) := by
  obtain ⟨hx, hb, hml, hown, hts, hr, hlocks⟩ := id C0
  intro n
  induction n with
  | zero =>
    intro x1 x2 x3 x4 x5 x6 x8 x9 x10 x11 σ H locs ls hw hW hS hl
    exact absurd hw (by unfold mmw_tells_217; exact id)
  | succ n ih =>
    intro x1 x2 x3 x4 x5 x6 x8 x9 x10 x11 σ H locs ls hw hW hS hl
    unfold mmw_tells_217 at hw
    refine lv_iload hx hb dX8_tells_217 (lv_at hl 10 rfl) ?_
    refine lv_if_lt (tgt := 275) hx hb dX8_tells_219 (by decide) (fun c21 => ?_) (fun c21 => ?_)
    · have hw := hw.1 c21
      refine lv_aload_n hx hb dX8_tells_275 rfl (lv_at hl 0 rfl) ?_
      refine lv_iload hx hb dX8_tells_276 (lv_at hl 5 rfl) ?_
      refine lv_iload_n hx hb dX8_tells_278 rfl (lv_at hl 2 rfl) ?_
      refine lv_iload hx hb dX8_tells_279 (lv_at hl 6 rfl) ?_
      refine mm_VV ⟨hx, hb, hml, hown, hts⟩ (mmt_lays l _ _ _ _ hw) (cwV 3 hts (lw_V q1547 q1549 qs84 q120 q1550) rfl rfl rfl cd_X8_lays ⟨Nat.le_of_ble_eq_true rfl, Nat.le_of_ble_eq_true rfl⟩) hW (mm_recv hW) hS rfl hl.1 rfl (Nat.le_of_ble_eq_true rfl) dX8_tells_281 (fun σ13 H locs hw hW hS => ?_)
      refine lv_iload hx hb dX8_tells_284 (lv_at hl 4 rfl) ?_
      refine lv_iconst (v := (3 : Int32)) hx hb dX8_tells_286 (by decide) ?_
      refine lv_icmp_ne (tgt := 295) hx hb dX8_tells_287 (by decide) (fun c15 => ?_) (fun c15 => ?_)
      · have hw := hw.2 c15
        refine lv_iload hx hb dX8_tells_295 (lv_at hl 4 rfl) ?_
        refine lv_iconst (v := (4 : Int32)) hx hb dX8_tells_297 (by decide) ?_
        refine lv_icmp_ne (tgt := 306) hx hb dX8_tells_298 (by decide) (fun c14 => ?_) (fun c14 => ?_)
        · have hw := hw.2 c14
          refine lv_iload hx hb dX8_tells_306 (lv_at hl 7 rfl) ?_
          exact gg_iret (mm_mv D cl E A ad) C0 hW hS hw dX8_tells_308
        · have hw := hw.1 c14
          refine lv_iload hx hb dX8_tells_301 (lv_at hl 9 rfl) ?_
          refine lv_goto (tgt := 308) hx hb dX8_tells_303 (by decide) ?_
          exact gg_iret (mm_mv D cl E A ad) C0 hW hS hw dX8_tells_308
      · have hw := hw.1 c15
        refine lv_iload hx hb dX8_tells_290 (lv_at hl 8 rfl) ?_
        refine lv_goto (tgt := 308) hx hb dX8_tells_292 (by decide) ?_
        exact gg_iret (mm_mv D cl E A ad) C0 hW hS hw dX8_tells_308
    · have hw := hw.2 c21
      refine lv_aload_n hx hb dX8_tells_222 rfl (lv_at hl 0 rfl) ?_
      refine lv_iload hx hb dX8_tells_223 (lv_at hl 5 rfl) ?_
      refine lv_iload_n hx hb dX8_tells_225 rfl (lv_at hl 2 rfl) ?_
      refine lv_iload hx hb dX8_tells_226 (lv_at hl 10 rfl) ?_
      refine mm_VV ⟨hx, hb, hml, hown, hts⟩ (mmt_lays l _ _ _ _ hw) (cwV 3 hts (lw_V q1547 q1549 qs84 q120 q1550) rfl rfl rfl cd_X8_lays ⟨Nat.le_of_ble_eq_true rfl, Nat.le_of_ble_eq_true rfl⟩) hW (mm_recv hW) hS rfl hl.1 rfl (Nat.le_of_ble_eq_true rfl) dX8_tells_228 (fun σ16 H locs hw hW hS => ?_)
      refine lv_aload_n hx hb dX8_tells_231 rfl (lv_at hl 0 rfl) ?_
      refine lv_iload_n hx hb dX8_tells_232 rfl (lv_at hl 1 rfl) ?_
      refine lv_iload_n hx hb dX8_tells_233 rfl (lv_at hl 2 rfl) ?_
      refine lv_iload_n hx hb dX8_tells_234 rfl (lv_at hl 3 rfl) ?_
      refine mm_VI ⟨hx, hb, hml, hown, hts⟩ (mmt_firstOther l _ _ _ _ hw) (cwV 3 hts (lw_V q1685 q1687 qs98 q120 q1688) rfl rfl rfl cd_X8_firstOther ⟨Nat.le_of_ble_eq_true rfl, Nat.le_of_ble_eq_true rfl⟩) hW (mm_recv hW) hS rfl hl.1 rfl (Nat.le_of_ble_eq_true rfl) dX8_tells_235 (fun r18 σ17 H locs hw hW hS => ?_)
      refine lv_iconst (v := (-1 : Int32)) hx hb dX8_tells_238 (by decide) ?_
      refine lv_icmp_ne (tgt := 269) hx hb dX8_tells_239 (by decide) (fun c20 => ?_) (fun c20 => ?_)
      · have hw := hw.2 c20
        refine lv_iinc (v := (x11 + (-1 : Int32))) (lv' := [(11, .int (x11 + (-1 : Int32))), (0, .ref (ad 0)), (1, .int x1), (2, .int x2), (3, .int x3), (4, .int x4), (5, .int x5), (6, .int x6), (8, .int x8), (9, .int x9), (10, .int x10)]) hx hb dX8_tells_269 hl (k := 10) rfl rfl (by decide) rfl (fun ls hl => ?_)
        refine lv_goto (tgt := 217) hx hb dX8_tells_272 (by decide) ?_
        exact ih x1 x2 x3 x4 x5 x6 x8 x9 x10 (x11 + (-1 : Int32)) σ17 _ _ _ hw hW hS (lv_sub hl [1, 2, 3, 4, 5, 6, 7, 8, 9, 10, 0] rfl)
      · have hw := hw.1 c20
        refine lv_iload hx hb dX8_tells_242 (lv_at hl 7 rfl) ?_
        refine lv_iload hx hb dX8_tells_244 (lv_at hl 10 rfl) ?_
        refine lv_bipush (v := (10 : Int32)) hx hb dX8_tells_246 (by decide) ?_
        refine lv_icmp_ge (tgt := 258) hx hb dX8_tells_248 (by decide) (fun c19 => ?_) (fun c19 => ?_)
        · have hw := hw.1 c19
          refine lv_iconst (v := (0 : Int32)) hx hb dX8_tells_258 (by decide) ?_
          exact mmk_tells_259  C0  (fun y0 y1 y2 y3 y4 y5 y6 y7 y8 y9 τ H9 l9 s9 => ih y0 y1 y2 y3 y4 y5 y6 y7 y8 y9 τ H9 l9 s9) x1 x2 x3 x4 x5 x6 x9 x11 x8 (0 : Int32) σ17 _ _ _ hw hW hS (lv_sub hl [0, 1, 2, 3, 4, 5, 6, 8, 10] rfl)
        · have hw := hw.2 c19
          refine lv_iconst (v := (1 : Int32)) hx hb dX8_tells_251 (by decide) ?_
          refine lv_iload hx hb dX8_tells_252 (lv_at hl 10 rfl) ?_
          refine lv_ishl hx hb dX8_tells_254 ?_
          refine lv_goto (tgt := 259) hx hb dX8_tells_255 (by decide) ?_
          exact mmk_tells_259  C0  (fun y0 y1 y2 y3 y4 y5 y6 y7 y8 y9 τ H9 l9 s9 => ih y0 y1 y2 y3 y4 y5 y6 y7 y8 y9 τ H9 l9 s9) x1 x2 x3 x4 x5 x6 x9 x11 x8 ((1 : Int32) <<< (x11 &&& 31)) σ17 _ _ _ hw hW hS (lv_sub hl [0, 1, 2, 3, 4, 5, 6, 8, 10] rfl)
set_option maxHeartbeats 4000000 in
set_option maxRecDepth 100000 in
theorem mmk_tells_202 {p : Program} {l : Launch} {e : Env} {s : State} {m : MethodId} {args : Array Value} {below : List Frame} {meth : Method} {c : Code} {D : va_G} {cl : List vw_C} {E : ClassId × ClassId} {A : Nat → Prop} {ad : Nat → Nat} {Q : Int32 → gg_S → Prop}   (C0 : gg_C p s m args meth c RX8 cX8_tells 12 (some .int))  :
    ∀ (x1 : Int32) (x2 : Int32) (x3 : Int32) (x4 : Int32) (x5 : Int32) (x6 : Int32) (s0 : Int32) (σ : gg_S) (H : Heap) (locs : List Loc) (ls : Array Slot), mmw_tells_202 Q x1 x2 x3 x4 x5 x6 s0 σ → mm_W D cl E A ad σ s H → va_S A s.heap H locs → lv_has ls 12 [(0, .ref (ad 0)), (1, .int x1), (2, .int x2), (3, .int x3), (4, .int x4), (5, .int x5), (6, .int x6)] → W p l e mmr_tells s m args below meth c H locs 0 0 (MQ below (va_Qi Q (fun u t => mm_W D cl E A ad u t t.heap) A) args s 0 0 A) (F0 m 202 ls [.int s0]) := by
  obtain ⟨hx, hb, hml, hown, hts, hr, hlocks⟩ := id C0
  intro x1 x2 x3 x4 x5 x6 s0 σ H locs ls hw hW hS hl
  unfold mmw_tells_202 at hw
  refine lv_istore (lv' := [(7, .int s0), (0, .ref (ad 0)), (1, .int x1), (2, .int x2), (3, .int x3), (4, .int x4), (5, .int x5), (6, .int x6)]) hx hb dX8_tells_202 hl (by decide) rfl (fun ls hl => ?_)
  refine lv_iconst (v := (0 : Int32)) hx hb dX8_tells_204 (by decide) ?_
  refine lv_istore (lv' := [(8, .int (0 : Int32)), (7, .int s0), (0, .ref (ad 0)), (1, .int x1), (2, .int x2), (3, .int x3), (4, .int x4), (5, .int x5), (6, .int x6)]) hx hb dX8_tells_205 hl (by decide) rfl (fun ls hl => ?_)
  refine lv_iconst (v := (0 : Int32)) hx hb dX8_tells_207 (by decide) ?_
  refine lv_istore (lv' := [(9, .int (0 : Int32)), (8, .int (0 : Int32)), (7, .int s0), (0, .ref (ad 0)), (1, .int x1), (2, .int x2), (3, .int x3), (4, .int x4), (5, .int x5), (6, .int x6)]) hx hb dX8_tells_208 hl (by decide) rfl (fun ls hl => ?_)
  refine lv_iconst (v := (-1 : Int32)) hx hb dX8_tells_210 (by decide) ?_
  refine lv_istore (lv' := [(10, .int (-1 : Int32)), (9, .int (0 : Int32)), (8, .int (0 : Int32)), (7, .int s0), (0, .ref (ad 0)), (1, .int x1), (2, .int x2), (3, .int x3), (4, .int x4), (5, .int x5), (6, .int x6)]) hx hb dX8_tells_211 hl (by decide) rfl (fun ls hl => ?_)
  refine lv_iload hx hb dX8_tells_213 (lv_at hl 3 rfl) ?_
  refine lv_istore (lv' := [(11, .int s0), (10, .int (-1 : Int32)), (9, .int (0 : Int32)), (8, .int (0 : Int32)), (7, .int s0), (0, .ref (ad 0)), (1, .int x1), (2, .int x2), (3, .int x3), (4, .int x4), (5, .int x5), (6, .int x6)]) hx hb dX8_tells_215 hl (by decide) rfl (fun ls hl => ?_)
  obtain ⟨n9, hw⟩ := hw
  exact mmk_tells_217  C0   n9 x1 x2 x3 x4 x5 x6 (0 : Int32) (0 : Int32) (-1 : Int32) s0 σ _ _ _ hw hW hS (lv_sub hl [5, 6, 7, 8, 9, 10, 11, 3, 2, 1, 0] rfl)
set_option maxHeartbeats 4000000 in
set_option maxRecDepth 100000 in
theorem mmk_tells_162 {p : Program} {l : Launch} {e : Env} {s : State} {m : MethodId} {args : Array Value} {below : List Frame} {meth : Method} {c : Code} {D : va_G} {cl : List vw_C} {E : ClassId × ClassId} {A : Nat → Prop} {ad : Nat → Nat} {Q : Int32 → gg_S → Prop}   (C0 : gg_C p s m args meth c RX8 cX8_tells 12 (some .int))  :
    ∀ (x1 : Int32) (x2 : Int32) (x3 : Int32) (x4 : Int32) (x5 : Int32) (s0 : Int32) (σ : gg_S) (H : Heap) (locs : List Loc) (ls : Array Slot), mmw_tells_162 Q x1 x2 x3 x4 x5 s0 σ → mm_W D cl E A ad σ s H → va_S A s.heap H locs → lv_has ls 12 [(0, .ref (ad 0)), (1, .int x1), (2, .int x2), (3, .int x3), (4, .int x4), (5, .int x5)] → W p l e mmr_tells s m args below meth c H locs 0 0 (MQ below (va_Qi Q (fun u t => mm_W D cl E A ad u t t.heap) A) args s 0 0 A) (F0 m 162 ls [.int s0]) := by
  obtain ⟨hx, hb, hml, hown, hts, hr, hlocks⟩ := id C0
  intro x1 x2 x3 x4 x5 s0 σ H locs ls hw hW hS hl
  unfold mmw_tells_162 at hw
  refine lv_istore (lv' := [(6, .int s0), (0, .ref (ad 0)), (1, .int x1), (2, .int x2), (3, .int x3), (4, .int x4), (5, .int x5)]) hx hb dX8_tells_162 hl (by decide) rfl (fun ls hl => ?_)
  refine lv_iload hx hb dX8_tells_164 (lv_at hl 6 rfl) ?_
  refine lv_iconst (v := (4 : Int32)) hx hb dX8_tells_166 (by decide) ?_
  refine lv_icmp_ne (tgt := 179) hx hb dX8_tells_167 (by decide) (fun c24 => ?_) (fun c24 => ?_)
  · have hw := hw.2 c24
    refine lv_iload hx hb dX8_tells_179 (lv_at hl 6 rfl) ?_
    refine lv_iconst (v := (3 : Int32)) hx hb dX8_tells_181 (by decide) ?_
    refine lv_icmp_ne (tgt := 189) hx hb dX8_tells_182 (by decide) (fun c23 => ?_) (fun c23 => ?_)
    · have hw := hw.2 c23
      refine lv_iload hx hb dX8_tells_189 (lv_at hl 6 rfl) ?_
      refine lv_iconst (v := (1 : Int32)) hx hb dX8_tells_191 (by decide) ?_
      refine lv_icmp_ne (tgt := 200) hx hb dX8_tells_192 (by decide) (fun c22 => ?_) (fun c22 => ?_)
      · have hw := hw.2 c22
        refine lv_bipush (v := (99 : Int32)) hx hb dX8_tells_200 (by decide) ?_
        exact mmk_tells_202  C0   x1 x2 x3 x4 x5 s0 (99 : Int32) σ _ _ _ hw hW hS (lv_sub hl [1, 2, 3, 4, 5, 6, 0] rfl)
      · have hw := hw.1 c22
        refine lv_bipush (v := (9 : Int32)) hx hb dX8_tells_195 (by decide) ?_
        refine lv_goto (tgt := 202) hx hb dX8_tells_197 (by decide) ?_
        exact mmk_tells_202  C0   x1 x2 x3 x4 x5 s0 (9 : Int32) σ _ _ _ hw hW hS (lv_sub hl [1, 2, 3, 4, 5, 6, 0] rfl)
    · have hw := hw.1 c23
      refine lv_iconst (v := (5 : Int32)) hx hb dX8_tells_185 (by decide) ?_
      refine lv_goto (tgt := 202) hx hb dX8_tells_186 (by decide) ?_
      exact mmk_tells_202  C0   x1 x2 x3 x4 x5 s0 (5 : Int32) σ _ _ _ hw hW hS (lv_sub hl [1, 2, 3, 4, 5, 6, 0] rfl)
  · have hw := hw.1 c24
    refine lv_aload_n hx hb dX8_tells_170 rfl (lv_at hl 1 rfl) ?_
    refine mm_geti hx hb hts hown hW 3 (by decide) q1274 dX8_tells_171 ?_
    refine lv_iconst (v := (1 : Int32)) hx hb dX8_tells_174 (by decide) ?_
    refine lv_isub hx hb dX8_tells_175 ?_
    refine lv_goto (tgt := 202) hx hb dX8_tells_176 (by decide) ?_
    exact mmk_tells_202  C0   x1 x2 x3 x4 x5 s0 ((gg_g σ 0 3) - (1 : Int32)) σ _ _ _ hw hW hS (lv_sub hl [1, 2, 3, 4, 5, 6, 0] rfl)
set_option maxHeartbeats 4000000 in
set_option maxRecDepth 100000 in
theorem mmk_tells_140 {p : Program} {l : Launch} {e : Env} {s : State} {m : MethodId} {args : Array Value} {below : List Frame} {meth : Method} {c : Code} {D : va_G} {cl : List vw_C} {E : ClassId × ClassId} {A : Nat → Prop} {ad : Nat → Nat} {Q : Int32 → gg_S → Prop}   (C0 : gg_C p s m args meth c RX8 cX8_tells 12 (some .int))  :
    ∀ (x1 : Int32) (x2 : Int32) (x3 : Int32) (x4 : Int32) (s0 : Int32) (σ : gg_S) (H : Heap) (locs : List Loc) (ls : Array Slot), mmw_tells_140 Q x1 x2 x3 x4 s0 σ → mm_W D cl E A ad σ s H → va_S A s.heap H locs → lv_has ls 12 [(0, .ref (ad 0)), (1, .int x1), (2, .int x2), (3, .int x3), (4, .int x4)] → W p l e mmr_tells s m args below meth c H locs 0 0 (MQ below (va_Qi Q (fun u t => mm_W D cl E A ad u t t.heap) A) args s 0 0 A) (F0 m 140 ls [.int s0]) := by
  obtain ⟨hx, hb, hml, hown, hts, hr, hlocks⟩ := id C0
  intro x1 x2 x3 x4 s0 σ H locs ls hw hW hS hl
  unfold mmw_tells_140 at hw
  refine lv_istore (lv' := [(5, .int s0), (0, .ref (ad 0)), (1, .int x1), (2, .int x2), (3, .int x3), (4, .int x4)]) hx hb dX8_tells_140 hl (by decide) rfl (fun ls hl => ?_)
  refine lv_iload hx hb dX8_tells_142 (lv_at hl 0 rfl) ?_
  refine lv_iconst (v := (4 : Int32)) hx hb dX8_tells_144 (by decide) ?_
  refine lv_icmp_ne (tgt := 155) hx hb dX8_tells_145 (by decide) (fun c25 => ?_) (fun c25 => ?_)
  · have hw := hw.2 c25
    refine lv_aload_n hx hb dX8_tells_155 rfl (lv_at hl 1 rfl) ?_
    refine lv_iload_n hx hb dX8_tells_156 rfl (lv_at hl 3 rfl) ?_
    refine lv_iload hx hb dX8_tells_157 (lv_at hl 0 rfl) ?_
    refine mm_VI ⟨hx, hb, hml, hown, hts⟩ (mmt_told l _ _ _ hw) (cwV 2 hts (lw_V q1445 q1446 q1447 q120 q1448) rfl rfl rfl cd_X8_told ⟨Nat.le_of_ble_eq_true rfl, Nat.le_of_ble_eq_true rfl⟩) hW (mm_recv hW) hS rfl hl.1 rfl (Nat.le_of_ble_eq_true rfl) dX8_tells_159 (fun r12 σ11 H locs hw hW hS => ?_)
    exact mmk_tells_162  C0   x1 x2 x3 x4 s0 r12 σ11 _ _ _ hw hW hS (lv_sub hl [1, 2, 3, 4, 5, 0] rfl)
  · have hw := hw.1 c25
    refine lv_aload_n hx hb dX8_tells_148 rfl (lv_at hl 1 rfl) ?_
    refine mm_geti hx hb hts hown hW 4 (by decide) q1275 dX8_tells_149 ?_
    refine lv_goto (tgt := 162) hx hb dX8_tells_152 (by decide) ?_
    exact mmk_tells_162  C0   x1 x2 x3 x4 s0 (gg_g σ 0 4) σ _ _ _ hw hW hS (lv_sub hl [1, 2, 3, 4, 5, 0] rfl)
set_option maxHeartbeats 4000000 in
set_option maxRecDepth 100000 in
theorem mmt_tells (l : Launch) {D : va_G} {cl : List vw_C} {E : ClassId × ClassId} {A : Nat → Prop} {ad : Nat → Nat}  (a1 : Int32) (a2 : Int32) (a3 : Int32) (a4 : Int32) (σ : gg_S) {Q : Int32 → gg_S → Prop} (hw : mmw_tells a1 a2 a3 a4 σ Q) :
    Met l yX8_tells (ws_ yX8_tells cX8_tells 12 (some .int)) mmr_tells (va_Pc [.ref (ad 0), .int a1, .int a2, .int a3, .int a4] (fun U => mm_W D cl E A ad σ U U.heap)) (va_Qi Q (fun u t => mm_W D cl E A ad u t t.heap) A) 0 0 A := by
  refine gg_entry (W0 := fun s H => mm_W D cl E A ad σ s H) (by decide) (Nat.le_of_ble_eq_true rfl) ?_
  intro p e s m args below meth c C0 hW ls hl
  have C0 : gg_C p s m args meth c RX8 cX8_tells 12 (some .int) := C0
  obtain ⟨hx, hb, hml, hown, hts, hr, hlocks⟩ := id C0
  have hl : lv_has ls 12 [(0, .ref (ad 0)), (1, .int a1), (2, .int a2), (3, .int a3), (4, .int a4)] := hl
  have hS : va_S A s.heap s.heap [] := va_S.rf
  unfold mmw_tells at hw
  refine lv_iload_n hx hb dX8_tells_0 rfl (lv_at hl 1 rfl) ?_
  refine mm_SI ⟨hx, hb, hml, hown, hts⟩ (mmt_isSheet l _ _ hw) (va_cwS 1 hts (lw_S q1681 q1682 q120 q1683) rfl rfl rfl cd_X8_isSheet.2 ⟨Nat.le_of_ble_eq_true rfl, Nat.le_of_ble_eq_true rfl⟩) hW hS rfl hl.1 rfl (Nat.le_of_ble_eq_true rfl) dX8_tells_1 (fun r2 σ1 H locs hw hW hS => ?_)
  obtain ⟨hz_r2, hw⟩ := hw
  refine lv_if_eq (tgt := 35) hx hb dX8_tells_4 (by decide) (fun c43 => ?_) (fun c43 => ?_)
  · have hw := hw.1 c43
    refine lv_bipush (v := (-2 : Int32)) hx hb dX8_tells_35 (by decide) ?_
    exact gg_iret (mm_mv D cl E A ad) C0 hW hS hw dX8_tells_37
  · have hw := hw.2 c43
    refine lv_aload_n hx hb dX8_tells_7 rfl (lv_at hl 0 rfl) ?_
    refine lv_iload_n hx hb dX8_tells_8 rfl (lv_at hl 2 rfl) ?_
    refine mm_VI ⟨hx, hb, hml, hown, hts⟩ (mmt_isOne l _ _ hw) (cwV 1 hts (lw_V q1438 q1440 qs61 q120 q1441) rfl rfl rfl cd_X8_isOne ⟨Nat.le_of_ble_eq_true rfl, Nat.le_of_ble_eq_true rfl⟩) hW (mm_recv hW) hS rfl hl.1 rfl (Nat.le_of_ble_eq_true rfl) dX8_tells_9 (fun r4 σ3 H locs hw hW hS => ?_)
    obtain ⟨hz_r4, hw⟩ := hw
    refine lv_if_eq (tgt := 35) hx hb dX8_tells_12 (by decide) (fun c42 => ?_) (fun c42 => ?_)
    · have hw := hw.1 c42
      refine lv_bipush (v := (-2 : Int32)) hx hb dX8_tells_35 (by decide) ?_
      exact gg_iret (mm_mv D cl E A ad) C0 hW hS hw dX8_tells_37
    · have hw := hw.2 c42
      refine lv_iload_n hx hb dX8_tells_15 rfl (lv_at hl 3 rfl) ?_
      refine mm_SI ⟨hx, hb, hml, hown, hts⟩ (mmt_isRow l _ _ hw) (va_cwS 1 hts (lw_S q1418 q1419 q120 q1420) rfl rfl rfl cd_X8_isRow.2 ⟨Nat.le_of_ble_eq_true rfl, Nat.le_of_ble_eq_true rfl⟩) hW hS rfl hl.1 rfl (Nat.le_of_ble_eq_true rfl) dX8_tells_16 (fun r6 σ5 H locs hw hW hS => ?_)
      obtain ⟨hz_r6, hw⟩ := hw
      refine lv_if_eq (tgt := 35) hx hb dX8_tells_19 (by decide) (fun c41 => ?_) (fun c41 => ?_)
      · have hw := hw.1 c41
        refine lv_bipush (v := (-2 : Int32)) hx hb dX8_tells_35 (by decide) ?_
        exact gg_iret (mm_mv D cl E A ad) C0 hW hS hw dX8_tells_37
      · have hw := hw.2 c41
        refine lv_iload hx hb dX8_tells_22 (lv_at hl 4 rfl) ?_
        refine lv_i2l (v := (a4).toInt64) hx hb dX8_tells_24 rfl ?_
        refine lv_lconst (v := (0 : Int64)) hx hb dX8_tells_25 (by decide) ?_
        refine lv_ldc2 (own := RX8) (v := (7 : Int64)) hx hb hown (hts _ q1684) dX8_tells_26 ?_
        refine mm_SI ⟨hx, hb, hml, hown, hts⟩ (mmt_in l _ _ _ _ hw) (va_cwS 3 hts (lw_S q1422 q1423 q120 q1424) rfl rfl rfl cd_X8_in.2 ⟨Nat.le_of_ble_eq_true rfl, Nat.le_of_ble_eq_true rfl⟩) hW hS rfl hl.1 rfl (Nat.le_of_ble_eq_true rfl) dX8_tells_29 (fun r8 σ7 H locs hw hW hS => ?_)
        obtain ⟨hz_r8, hw⟩ := hw
        refine lv_if_ne (tgt := 38) hx hb dX8_tells_32 (by decide) (fun c40 => ?_) (fun c40 => ?_)
        · have hw := hw.2 c40
          refine lv_aload_n hx hb dX8_tells_38 rfl (lv_at hl 0 rfl) ?_
          refine mm_getr hx hb hts hown hW 43 18 (by decide) q1314 dX8_tells_39 ?_
          refine lv_iload_n hx hb dX8_tells_42 rfl (lv_at hl 1 rfl) ?_
          obtain ⟨hin, hw⟩ := hw
          refine mm_zld hx hb hW hin dX8_tells_43 ?_
          refine lv_if_ne (tgt := 50) hx hb dX8_tells_44 (by decide) (fun c39 => ?_) (fun c39 => ?_)
          · have hw := hw.2 c39
            refine lv_aload_n hx hb dX8_tells_50 rfl (lv_at hl 0 rfl) ?_
            refine mm_getr hx hb hts hown hW 45 20 (by decide) q1316 dX8_tells_51 ?_
            refine lv_iload_n hx hb dX8_tells_54 rfl (lv_at hl 1 rfl) ?_
            obtain ⟨hin, hw⟩ := hw
            refine mm_ald hx hb hW 19 (by decide) hin dX8_tells_55 ?_
            refine lv_aload_n hx hb dX8_tells_56 rfl (lv_at hl 0 rfl) ?_
            refine lv_iload_n hx hb dX8_tells_57 rfl (lv_at hl 3 rfl) ?_
            refine mm_VI ⟨hx, hb, hml, hown, hts⟩ (mmt_runsOf l _ _ hw) (cwV 1 hts (lw_V q1531 q1533 qs80 q120 q1534) rfl rfl rfl cd_X8_runsOf ⟨Nat.le_of_ble_eq_true rfl, Nat.le_of_ble_eq_true rfl⟩) hW (mm_recv hW) hS rfl hl.1 rfl (Nat.le_of_ble_eq_true rfl) dX8_tells_58 (fun r10 σ9 H locs hw hW hS => ?_)
            refine lv_icmp_le (tgt := 67) hx hb dX8_tells_61 (by decide) (fun c38 => ?_) (fun c38 => ?_)
            · have hw := hw.1 c38
              refine lv_iload hx hb dX8_tells_67 (lv_at hl 4 rfl) ?_
              refine lv_if_ne (tgt := 80) hx hb dX8_tells_69 (by decide) (fun c37 => ?_) (fun c37 => ?_)
              · have hw := hw.2 c37
                refine lv_iload hx hb dX8_tells_80 (lv_at hl 4 rfl) ?_
                refine lv_iconst (v := (5 : Int32)) hx hb dX8_tells_82 (by decide) ?_
                refine lv_icmp_le (tgt := 109) hx hb dX8_tells_83 (by decide) (fun c34 => ?_) (fun c34 => ?_)
                · have hw := hw.1 c34
                  refine lv_iload hx hb dX8_tells_109 (lv_at hl 4 rfl) ?_
                  refine lv_iconst (v := (1 : Int32)) hx hb dX8_tells_111 (by decide) ?_
                  refine lv_icmp_ne (tgt := 119) hx hb dX8_tells_112 (by decide) (fun c28 => ?_) (fun c28 => ?_)
                  · have hw := hw.2 c28
                    refine lv_iload hx hb dX8_tells_119 (lv_at hl 4 rfl) ?_
                    refine lv_iconst (v := (2 : Int32)) hx hb dX8_tells_121 (by decide) ?_
                    refine lv_icmp_ne (tgt := 129) hx hb dX8_tells_122 (by decide) (fun c27 => ?_) (fun c27 => ?_)
                    · have hw := hw.2 c27
                      refine lv_iload hx hb dX8_tells_129 (lv_at hl 4 rfl) ?_
                      refine lv_iconst (v := (5 : Int32)) hx hb dX8_tells_131 (by decide) ?_
                      refine lv_icmp_ne (tgt := 139) hx hb dX8_tells_132 (by decide) (fun c26 => ?_) (fun c26 => ?_)
                      · have hw := hw.2 c26
                        refine lv_iconst (v := (2 : Int32)) hx hb dX8_tells_139 (by decide) ?_
                        exact mmk_tells_140  C0   a1 a2 a3 a4 (2 : Int32) σ9 _ _ _ hw hW hS (hl)
                      · have hw := hw.1 c26
                        refine lv_iconst (v := (4 : Int32)) hx hb dX8_tells_135 (by decide) ?_
                        refine lv_goto (tgt := 140) hx hb dX8_tells_136 (by decide) ?_
                        exact mmk_tells_140  C0   a1 a2 a3 a4 (4 : Int32) σ9 _ _ _ hw hW hS (hl)
                    · have hw := hw.1 c27
                      refine lv_iconst (v := (1 : Int32)) hx hb dX8_tells_125 (by decide) ?_
                      refine lv_goto (tgt := 140) hx hb dX8_tells_126 (by decide) ?_
                      exact mmk_tells_140  C0   a1 a2 a3 a4 (1 : Int32) σ9 _ _ _ hw hW hS (hl)
                  · have hw := hw.1 c28
                    refine lv_iconst (v := (3 : Int32)) hx hb dX8_tells_115 (by decide) ?_
                    refine lv_goto (tgt := 140) hx hb dX8_tells_116 (by decide) ?_
                    exact mmk_tells_140  C0   a1 a2 a3 a4 (3 : Int32) σ9 _ _ _ hw hW hS (hl)
                · have hw := hw.2 c34
                  refine lv_iload hx hb dX8_tells_86 (lv_at hl 4 rfl) ?_
                  refine lv_bipush (v := (6 : Int32)) hx hb dX8_tells_88 (by decide) ?_
                  refine lv_icmp_ne (tgt := 102) hx hb dX8_tells_90 (by decide) (fun c33 => ?_) (fun c33 => ?_)
                  · have hw := hw.2 c33
                    refine lv_aload_n hx hb dX8_tells_102 rfl (lv_at hl 0 rfl) ?_
                    refine lv_iload_n hx hb dX8_tells_103 rfl (lv_at hl 1 rfl) ?_
                    refine lv_iload_n hx hb dX8_tells_104 rfl (lv_at hl 2 rfl) ?_
                    refine mm_VI ⟨hx, hb, hml, hown, hts⟩ (mmt_rowSet l _ _ _ hw) (cwV 2 hts (lw_V q1693 q1695 qs100 q120 q1696) rfl rfl rfl cd_X8_rowSet ⟨Nat.le_of_ble_eq_true rfl, Nat.le_of_ble_eq_true rfl⟩) hW (mm_recv hW) hS rfl hl.1 rfl (Nat.le_of_ble_eq_true rfl) dX8_tells_105 (fun r30 σ29 H locs hw hW hS => ?_)
                    exact gg_iret (mm_mv D cl E A ad) C0 hW hS hw dX8_tells_108
                  · have hw := hw.1 c33
                    refine lv_aload_n hx hb dX8_tells_93 rfl (lv_at hl 0 rfl) ?_
                    refine lv_iload_n hx hb dX8_tells_94 rfl (lv_at hl 1 rfl) ?_
                    refine lv_iload_n hx hb dX8_tells_95 rfl (lv_at hl 3 rfl) ?_
                    refine mm_VI ⟨hx, hb, hml, hown, hts⟩ (mmt_likeSet l _ _ _ hw) (cwV 2 hts (lw_V q1689 q1691 qs99 q120 q1692) rfl rfl rfl cd_X8_likeSet ⟨Nat.le_of_ble_eq_true rfl, Nat.le_of_ble_eq_true rfl⟩) hW (mm_recv hW) hS rfl hl.1 rfl (Nat.le_of_ble_eq_true rfl) dX8_tells_96 (fun r32 σ31 H locs hw hW hS => ?_)
                    refine lv_goto (tgt := 108) hx hb dX8_tells_99 (by decide) ?_
                    exact gg_iret (mm_mv D cl E A ad) C0 hW hS hw dX8_tells_108
              · have hw := hw.1 c37
                refine lv_aload_n hx hb dX8_tells_72 rfl (lv_at hl 0 rfl) ?_
                refine lv_iload_n hx hb dX8_tells_73 rfl (lv_at hl 1 rfl) ?_
                refine lv_iload_n hx hb dX8_tells_74 rfl (lv_at hl 2 rfl) ?_
                refine lv_iload_n hx hb dX8_tells_75 rfl (lv_at hl 3 rfl) ?_
                refine mm_VI ⟨hx, hb, hml, hown, hts⟩ (mmt_firstOther l _ _ _ _ hw) (cwV 3 hts (lw_V q1685 q1687 qs98 q120 q1688) rfl rfl rfl cd_X8_firstOther ⟨Nat.le_of_ble_eq_true rfl, Nat.le_of_ble_eq_true rfl⟩) hW (mm_recv hW) hS rfl hl.1 rfl (Nat.le_of_ble_eq_true rfl) dX8_tells_76 (fun r36 σ35 H locs hw hW hS => ?_)
                exact gg_iret (mm_mv D cl E A ad) C0 hW hS hw dX8_tells_79
            · have hw := hw.2 c38
              refine lv_bipush (v := (-2 : Int32)) hx hb dX8_tells_64 (by decide) ?_
              exact gg_iret (mm_mv D cl E A ad) C0 hW hS hw dX8_tells_66
          · have hw := hw.1 c39
            refine lv_bipush (v := (-11 : Int32)) hx hb dX8_tells_47 (by decide) ?_
            exact gg_iret (mm_mv D cl E A ad) C0 hW hS hw dX8_tells_49
        · have hw := hw.1 c40
          refine lv_bipush (v := (-2 : Int32)) hx hb dX8_tells_35 (by decide) ?_
          exact gg_iret (mm_mv D cl E A ad) C0 hW hS hw dX8_tells_37
