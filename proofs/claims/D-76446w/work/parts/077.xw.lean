theorem cd_X0_lowest : yX0_lowest.cls = RX0 ∧ yX0_lowest.cls ≠ "java/lang/invoke/MethodHandle" ∧ yX0_lowest.cls ≠ "java/lang/invoke/VarHandle" ∧ (parseMethodDescriptor yX0_lowest.desc).map (fun d => d.parameters.length) = some 3 := by decide +kernel
/-! GleanersForGaps.lowest(JJI)J -/
def xxw_lowest_41  (Q : Int64 → xx_S → Prop)  (x5 : Int64) (s0 : Int64) (σ : xx_S) : Prop :=
    (¬ x5 = 0) ∧ Q (s0 / x5) σ
def xxw_lowest_6  (Q : Int64 → xx_S → Prop)  : Nat → Int64 → Int64 → Int32 → Int64 → Int64 → xx_S → Prop
  | 0, _, _, _, _, _, _ => False
  | n + 1, x0, x2, x4, x5, x7, σ =>
    ((((lg_cmp x7 (0 : Int64)) = 0) → (((x4 = 0) → xxw_lowest_41 Q x5 x0 σ) ∧ (¬ (x4 = 0) → xxw_lowest_41 Q x5 x2 σ))) ∧ (¬ ((lg_cmp x7 (0 : Int64)) = 0) → (¬ x7 = 0) ∧ xxw_lowest_6 Q n x0 x2 x4 x7 (x5 - x5 / x7 * x7) σ))
def xxw_lowest  (a0 : Int64) (a2 : Int64) (a4 : Int32) (σ : xx_S) (Q : Int64 → xx_S → Prop) : Prop :=
    ∃ k9, xxw_lowest_6 Q k9 a0 a2 a4 a0 a2 σ
abbrev xxr_lowest : Room := { frames := 0, cells := 0, slots := 0, locals := 0 }
set_option maxHeartbeats 4000000 in
set_option maxRecDepth 100000 in
theorem xxk_lowest_41 {p : Program} {l : Launch} {e : Env} {s : State} {m : MethodId} {args : Array Value} {below : List Frame} {meth : Method} {c : Code} {D : va_G} {E : Nat → ClassId} {A : Nat → Prop} {ad sk : Nat → Nat} {Q : Int64 → xx_S → Prop}   (C0 : gg_C p s m args meth c RX0 cX0_lowest 11 (some .long)) (hA : xx_A sk A s) :
    ∀ (x5 : Int64) (s0 : Int64) (σ : xx_S) (H : Heap) (locs : List Loc) (ls : Array Slot), xxw_lowest_41 Q x5 s0 σ → xx_W D E A ad sk σ s H → va_S A s.heap H locs → lv_has ls 11 [(5, .long x5)] → W p l e xxr_lowest s m args below meth c H locs 0 0 (MQ below (va_Ql Q (fun u t => xx_W D E A ad sk u t t.heap) A) args s 0 0 A) (F0 m 41 ls [.long s0]) := by
  obtain ⟨hx, hb, hml, hown, hts, hr, hlocks⟩ := id C0
  intro x5 s0 σ H locs ls hw hW hS hl
  unfold xxw_lowest_41 at hw
  refine lv_lload hx hb dX0_lowest_41 (lv_at hl 0 rfl) ?_
  obtain ⟨hnz, hw⟩ := hw
  refine lv_ldiv hx hb dX0_lowest_43 hnz ?_
  exact gg_lret (xx_mv D E A ad sk) C0 hW hS hw dX0_lowest_44
set_option maxHeartbeats 4000000 in
set_option maxRecDepth 100000 in
theorem xxk_lowest_6 {p : Program} {l : Launch} {e : Env} {s : State} {m : MethodId} {args : Array Value} {below : List Frame} {meth : Method} {c : Code} {D : va_G} {E : Nat → ClassId} {A : Nat → Prop} {ad sk : Nat → Nat} {Q : Int64 → xx_S → Prop}   (C0 : gg_C p s m args meth c RX0 cX0_lowest 11 (some .long)) (hA : xx_A sk A s) :
    ∀ n : Nat, ∀ (x0 : Int64) (x2 : Int64) (x4 : Int32) (x5 : Int64) (x7 : Int64) (σ : xx_S) (H : Heap) (locs : List Loc) (ls : Array Slot), xxw_lowest_6 Q n x0 x2 x4 x5 x7 σ → xx_W D E A ad sk σ s H → va_S A s.heap H locs → lv_has ls 11 [(0, .long x0), (2, .long x2), (4, .int x4), (5, .long x5), (7, .long x7)] → W p l e xxr_lowest s m args below meth c H locs 0 0 (MQ below (va_Ql Q (fun u t => xx_W D E A ad sk u t t.heap) A) args s 0 0 A) (F0 m 6 ls []) := by
  obtain ⟨hx, hb, hml, hown, hts, hr, hlocks⟩ := id C0
  intro n
  induction n with
  | zero =>
    intro x0 x2 x4 x5 x7 σ H locs ls hw hW hS hl
    exact absurd hw (by unfold xxw_lowest_6; exact id)
  | succ n ih =>
    intro x0 x2 x4 x5 x7 σ H locs ls hw hW hS hl
    unfold xxw_lowest_6 at hw
    refine lv_lload hx hb dX0_lowest_6 (lv_at hl 4 rfl) ?_
    refine lv_lconst (v := (0 : Int64)) hx hb dX0_lowest_8 (by decide) ?_
    refine W.lcmp hx hb dX0_lowest_9 ?_
    refine lv_if_eq (tgt := 31) hx hb dX0_lowest_10 (by decide) (fun c2 => ?_) (fun c2 => ?_)
    · have hw := hw.1 c2
      refine lv_iload hx hb dX0_lowest_31 (lv_at hl 2 rfl) ?_
      refine lv_if_ne (tgt := 40) hx hb dX0_lowest_33 (by decide) (fun c1 => ?_) (fun c1 => ?_)
      · have hw := hw.2 c1
        refine lv_lload_n hx hb dX0_lowest_40 rfl (lv_at hl 1 rfl) ?_
        exact xxk_lowest_41  C0 hA  x5 x2 σ _ _ _ hw hW hS (lv_sub hl [3] rfl)
      · have hw := hw.1 c1
        refine lv_lload_n hx hb dX0_lowest_36 rfl (lv_at hl 0 rfl) ?_
        refine lv_goto (tgt := 41) hx hb dX0_lowest_37 (by decide) ?_
        exact xxk_lowest_41  C0 hA  x5 x0 σ _ _ _ hw hW hS (lv_sub hl [3] rfl)
    · have hw := hw.2 c2
      refine lv_lload hx hb dX0_lowest_13 (lv_at hl 3 rfl) ?_
      refine lv_lload hx hb dX0_lowest_15 (lv_at hl 4 rfl) ?_
      obtain ⟨hnz, hw⟩ := hw
      refine lv_lrem hx hb dX0_lowest_17 hnz ?_
      refine lv_lstore (lv' := [(9, .long (x5 - x5 / x7 * x7)), (0, .long x0), (2, .long x2), (4, .int x4), (5, .long x5), (7, .long x7)]) hx hb dX0_lowest_18 hl (by decide) rfl (fun ls hl => ?_)
      refine lv_lload hx hb dX0_lowest_20 (lv_at hl 5 rfl) ?_
      refine lv_lstore (lv' := [(5, .long x7), (9, .long (x5 - x5 / x7 * x7)), (0, .long x0), (2, .long x2), (4, .int x4), (7, .long x7)]) hx hb dX0_lowest_22 hl (by decide) rfl (fun ls hl => ?_)
      refine lv_lload hx hb dX0_lowest_24 (lv_at hl 1 rfl) ?_
      refine lv_lstore (lv' := [(7, .long (x5 - x5 / x7 * x7)), (5, .long x7), (9, .long (x5 - x5 / x7 * x7)), (0, .long x0), (2, .long x2), (4, .int x4)]) hx hb dX0_lowest_26 hl (by decide) rfl (fun ls hl => ?_)
      refine lv_goto (tgt := 6) hx hb dX0_lowest_28 (by decide) ?_
      exact ih x0 x2 x4 x7 (x5 - x5 / x7 * x7) σ _ _ _ hw hW hS (lv_sub hl [3, 4, 5, 1, 0] rfl)
set_option maxHeartbeats 4000000 in
set_option maxRecDepth 100000 in
theorem xxt_lowest (l : Launch) {D : va_G} {E : Nat → ClassId} {A : Nat → Prop} {ad sk : Nat → Nat}  (a0 : Int64) (a2 : Int64) (a4 : Int32) (σ : xx_S) {Q : Int64 → xx_S → Prop} (hw : xxw_lowest a0 a2 a4 σ Q) :
    Met l yX0_lowest (ws_ yX0_lowest cX0_lowest 11 (some .long)) xxr_lowest (va_Pc [.long a0, .long a2, .int a4] (fun U => xx_V D E A ad sk σ U U.heap)) (va_Ql Q (fun u t => xx_W D E A ad sk u t t.heap) A) 0 0 A := by
  refine gg_entry (W0 := fun s H => xx_V D E A ad sk σ s H) (by decide) (Nat.le_of_ble_eq_true rfl) ?_
  intro p e s m args below meth c C0 hV ls hl
  have C0 : gg_C p s m args meth c RX0 cX0_lowest 11 (some .long) := C0
  obtain ⟨hx, hb, hml, hown, hts, hr, hlocks⟩ := id C0
  have hl : lv_has ls 11 [(0, .long a0), (2, .long a2), (4, .int a4)] := hl
  have hS : va_S A s.heap s.heap [] := va_S.rf
  have hA : xx_A sk A s := hV.2
  have hW : xx_W D E A ad sk σ s s.heap := hV.1
  unfold xxw_lowest at hw
  refine lv_lload_n hx hb dX0_lowest_0 rfl (lv_at hl 0 rfl) ?_
  refine lv_lstore (lv' := [(5, .long a0), (0, .long a0), (2, .long a2), (4, .int a4)]) hx hb dX0_lowest_1 hl (by decide) rfl (fun ls hl => ?_)
  refine lv_lload_n hx hb dX0_lowest_3 rfl (lv_at hl 2 rfl) ?_
  refine lv_lstore (lv' := [(7, .long a2), (5, .long a0), (0, .long a0), (2, .long a2), (4, .int a4)]) hx hb dX0_lowest_4 hl (by decide) rfl (fun ls hl => ?_)
  obtain ⟨n9, hw⟩ := hw
  exact xxk_lowest_6  C0 hA  n9 a0 a2 a4 a0 a2 σ _ _ _ hw hW hS (lv_sub hl [2, 3, 4, 1, 0] rfl)
theorem cd_X0_close : yX0_close.cls = RX0 ∧ yX0_close.cls ≠ "java/lang/invoke/MethodHandle" ∧ yX0_close.cls ≠ "java/lang/invoke/VarHandle" ∧ (parseMethodDescriptor yX0_close.desc).map (fun d => d.parameters.length) = some 1 := by decide +kernel
/-! GleanersForGaps.close(I)J -/
def xxw_close_56  (Q : Int64 → xx_S → Prop)   (σ : xx_S) : Prop :=
    Q (-4611686018427387904 : Int64) σ
def xxw_close_7  (Q : Int64 → xx_S → Prop)  : Nat → Int32 → Int32 → Int32 → Int32 → xx_S → Prop
  | 0, _, _, _, _, _ => False
  | n + 1, x1, x2, x3, x4, σ =>
    ((((4 : Int32) ≤ x4) → (xxw_in ((x1).toInt64) (0 : Int64) (1 : Int64) σ (fun r2 σ1 => (((r2 = 0) → xxw_close_56 Q σ1) ∧ (¬ (r2 = 0) → (((x2 = 0) → xxw_close_56 Q σ1) ∧ (¬ (x2 = 0) → (xxw_lowest ((x3).toInt64) ((x2).toInt64) x1 σ1 (fun r4 σ3 => Q r4 σ3))))))))) ∧ (¬ ((4 : Int32) ≤ x4) → vp_in x4 4 ∧ vp_in x4 4 ∧ (xxw_bitCount (xx_g σ 2 x4.toNatClampNeg) σ (fun r8 σ7 => xxw_close_7 Q n x1 (x2 + (xx_g σ 1 x4.toNatClampNeg)) (x3 + r8) (x4 + (1 : Int32)) σ7))))
def xxw_close  (a1 : Int32) (σ : xx_S) (Q : Int64 → xx_S → Prop) : Prop :=
    ∃ k9, xxw_close_7 Q k9 a1 (0 : Int32) (0 : Int32) (0 : Int32) σ
abbrev xxr_close : Room := { frames := 1, cells := 0, slots := 0, locals := 30 }
set_option maxHeartbeats 4000000 in
set_option maxRecDepth 100000 in
theorem xxk_close_56 {p : Program} {l : Launch} {e : Env} {s : State} {m : MethodId} {args : Array Value} {below : List Frame} {meth : Method} {c : Code} {D : va_G} {E : Nat → ClassId} {A : Nat → Prop} {ad sk : Nat → Nat} {Q : Int64 → xx_S → Prop}   (C0 : gg_C p s m args meth c RX0 cX0_close 5 (some .long)) (hA : xx_A sk A s) :
    ∀  (σ : xx_S) (H : Heap) (locs : List Loc) (ls : Array Slot), xxw_close_56 Q σ → xx_W D E A ad sk σ s H → va_S A s.heap H locs → lv_has ls 5 [(0, .ref (ad 0))] → W p l e xxr_close s m args below meth c H locs 0 0 (MQ below (va_Ql Q (fun u t => xx_W D E A ad sk u t t.heap) A) args s 0 0 A) (F0 m 56 ls []) := by
  obtain ⟨hx, hb, hml, hown, hts, hr, hlocks⟩ := id C0
  intro σ H locs ls hw hW hS hl
  unfold xxw_close_56 at hw
  refine lv_ldc2 (own := RX0) (v := (-4611686018427387904 : Int64)) hx hb hown (hts _ q1022) dX0_close_56 ?_
  refine lv_goto (tgt := 70) hx hb dX0_close_59 (by decide) ?_
  exact gg_lret (xx_mv D E A ad sk) C0 hW hS hw dX0_close_70
set_option maxHeartbeats 4000000 in
set_option maxRecDepth 100000 in
theorem xxk_close_7 {p : Program} {l : Launch} {e : Env} {s : State} {m : MethodId} {args : Array Value} {below : List Frame} {meth : Method} {c : Code} {D : va_G} {E : Nat → ClassId} {A : Nat → Prop} {ad sk : Nat → Nat} {Q : Int64 → xx_S → Prop}   (C0 : gg_C p s m args meth c RX0 cX0_close 5 (some .long)) (hA : xx_A sk A s) :
    ∀ n : Nat, ∀ (x1 : Int32) (x2 : Int32) (x3 : Int32) (x4 : Int32) (σ : xx_S) (H : Heap) (locs : List Loc) (ls : Array Slot), xxw_close_7 Q n x1 x2 x3 x4 σ → xx_W D E A ad sk σ s H → va_S A s.heap H locs → lv_has ls 5 [(0, .ref (ad 0)), (1, .int x1), (2, .int x2), (3, .int x3), (4, .int x4)] → W p l e xxr_close s m args below meth c H locs 0 0 (MQ below (va_Ql Q (fun u t => xx_W D E A ad sk u t t.heap) A) args s 0 0 A) (F0 m 7 ls []) := by
  obtain ⟨hx, hb, hml, hown, hts, hr, hlocks⟩ := id C0
  intro n
  induction n with
  | zero =>
    intro x1 x2 x3 x4 σ H locs ls hw hW hS hl
    exact absurd hw (by unfold xxw_close_7; exact id)
  | succ n ih =>
    intro x1 x2 x3 x4 σ H locs ls hw hW hS hl
    unfold xxw_close_7 at hw
    refine lv_iload hx hb dX0_close_7 (lv_at hl 4 rfl) ?_
    refine lv_iconst (v := (4 : Int32)) hx hb dX0_close_9 (by decide) ?_
    refine lv_icmp_ge (tgt := 42) hx hb dX0_close_10 (by decide) (fun c9 => ?_) (fun c9 => ?_)
    · have hw := hw.1 c9
      refine lv_iload_n hx hb dX0_close_42 rfl (lv_at hl 1 rfl) ?_
      refine lv_i2l (v := (x1).toInt64) hx hb dX0_close_43 rfl ?_
      refine lv_lconst (v := (0 : Int64)) hx hb dX0_close_44 (by decide) ?_
      refine lv_lconst (v := (1 : Int64)) hx hb dX0_close_45 (by decide) ?_
      refine xx_SI ⟨hx, hb, hml, hown, hts⟩ hA (xxt_in l _ _ _ _ hw) (va_cwS 3 hts (lw_S q139 q140 q103 q141) rfl rfl rfl cd_X0_in.2 ⟨Nat.le_of_ble_eq_true rfl, Nat.le_of_ble_eq_true rfl⟩) hW hS rfl hl.1 rfl (Nat.le_of_ble_eq_true rfl) dX0_close_46 (fun r2 σ1 H locs hw hW hS => ?_)
      obtain ⟨hz_r2, hw⟩ := hw
      refine lv_if_eq (tgt := 56) hx hb dX0_close_49 (by decide) (fun c6 => ?_) (fun c6 => ?_)
      · have hw := hw.1 c6
        exact xxk_close_56  C0 hA  σ1 _ _ _ hw hW hS (lv_sub hl [0] rfl)
      · have hw := hw.2 c6
        refine lv_iload_n hx hb dX0_close_52 rfl (lv_at hl 2 rfl) ?_
        refine lv_if_ne (tgt := 62) hx hb dX0_close_53 (by decide) (fun c5 => ?_) (fun c5 => ?_)
        · have hw := hw.2 c5
          refine lv_iload_n hx hb dX0_close_62 rfl (lv_at hl 3 rfl) ?_
          refine lv_i2l (v := (x3).toInt64) hx hb dX0_close_63 rfl ?_
          refine lv_iload_n hx hb dX0_close_64 rfl (lv_at hl 2 rfl) ?_
          refine lv_i2l (v := (x2).toInt64) hx hb dX0_close_65 rfl ?_
          refine lv_iload_n hx hb dX0_close_66 rfl (lv_at hl 1 rfl) ?_
          refine xx_SJ ⟨hx, hb, hml, hown, hts⟩ hA (xxt_lowest l _ _ _ _ hw) (va_cwS 3 hts (lw_S q1023 q1024 q103 q1025) rfl rfl rfl cd_X0_lowest.2 ⟨Nat.le_of_ble_eq_true rfl, Nat.le_of_ble_eq_true rfl⟩) hW hS rfl hl.1 rfl (Nat.le_of_ble_eq_true rfl) dX0_close_67 (fun r4 σ3 H locs hw hW hS => ?_)
          exact gg_lret (xx_mv D E A ad sk) C0 hW hS hw dX0_close_70
        · have hw := hw.1 c5
          exact xxk_close_56  C0 hA  σ1 _ _ _ hw hW hS (lv_sub hl [0] rfl)
    · have hw := hw.2 c9
      refine lv_iload_n hx hb dX0_close_13 rfl (lv_at hl 2 rfl) ?_
      refine lv_aload_n hx hb dX0_close_14 rfl (lv_at hl 0 rfl) ?_
      refine xx_getr hx hb hts hown hW 3 1 (by decide) q748 dX0_close_15 ?_
      refine lv_iload hx hb dX0_close_18 (lv_at hl 4 rfl) ?_
      obtain ⟨hin, hw⟩ := hw
      refine xx_ald hx hb hW 1 4 (by decide) rfl hin dX0_close_20 ?_
      refine lv_iadd hx hb dX0_close_21 ?_
      refine lv_istore_n (lv' := [(2, .int (x2 + (xx_g σ 1 x4.toNatClampNeg))), (0, .ref (ad 0)), (1, .int x1), (3, .int x3), (4, .int x4)]) hx hb dX0_close_22 rfl hl (by decide) rfl (fun ls hl => ?_)
      refine lv_iload_n hx hb dX0_close_23 rfl (lv_at hl 3 rfl) ?_
      refine lv_aload_n hx hb dX0_close_24 rfl (lv_at hl 1 rfl) ?_
      refine xx_getr hx hb hts hown hW 4 2 (by decide) q749 dX0_close_25 ?_
      refine lv_iload hx hb dX0_close_28 (lv_at hl 4 rfl) ?_
      obtain ⟨hin, hw⟩ := hw
      refine xx_ald hx hb hW 2 4 (by decide) rfl hin dX0_close_30 ?_
      refine xx_SI ⟨hx, hb, hml, hown, hts⟩ hA (xxt_bitCount l _ _ hw) (va_cwS 1 hts (lw_S q230 q231 q121 q232) rfl rfl rfl cd_J9_bitCount.2 ⟨Nat.le_of_ble_eq_true rfl, Nat.le_of_ble_eq_true rfl⟩) hW hS rfl hl.1 rfl (Nat.le_of_ble_eq_true rfl) dX0_close_31 (fun r8 σ7 H locs hw hW hS => ?_)
      refine lv_iadd hx hb dX0_close_34 ?_
      refine lv_istore_n (lv' := [(3, .int (x3 + r8)), (2, .int (x2 + (xx_g σ 1 x4.toNatClampNeg))), (0, .ref (ad 0)), (1, .int x1), (4, .int x4)]) hx hb dX0_close_35 rfl hl (by decide) rfl (fun ls hl => ?_)
      refine lv_iinc (v := (x4 + (1 : Int32))) (lv' := [(4, .int (x4 + (1 : Int32))), (3, .int (x3 + r8)), (2, .int (x2 + (xx_g σ 1 x4.toNatClampNeg))), (0, .ref (ad 0)), (1, .int x1)]) hx hb dX0_close_36 hl (k := 4) rfl rfl (by decide) rfl (fun ls hl => ?_)
      refine lv_goto (tgt := 7) hx hb dX0_close_39 (by decide) ?_
      exact ih x1 (x2 + (xx_g σ 1 x4.toNatClampNeg)) (x3 + r8) (x4 + (1 : Int32)) σ7 _ _ _ hw hW hS (lv_sub hl [3, 4, 2, 1, 0] rfl)
set_option maxHeartbeats 4000000 in
set_option maxRecDepth 100000 in
theorem xxt_close (l : Launch) {D : va_G} {E : Nat → ClassId} {A : Nat → Prop} {ad sk : Nat → Nat}  (a1 : Int32) (σ : xx_S) {Q : Int64 → xx_S → Prop} (hw : xxw_close a1 σ Q) :
    Met l yX0_close (ws_ yX0_close cX0_close 5 (some .long)) xxr_close (va_Pc [.ref (ad 0), .int a1] (fun U => xx_V D E A ad sk σ U U.heap)) (va_Ql Q (fun u t => xx_W D E A ad sk u t t.heap) A) 0 0 A := by
  refine gg_entry (W0 := fun s H => xx_V D E A ad sk σ s H) (by decide) (Nat.le_of_ble_eq_true rfl) ?_
  intro p e s m args below meth c C0 hV ls hl
  have C0 : gg_C p s m args meth c RX0 cX0_close 5 (some .long) := C0
  obtain ⟨hx, hb, hml, hown, hts, hr, hlocks⟩ := id C0
  have hl : lv_has ls 5 [(0, .ref (ad 0)), (1, .int a1)] := hl
  have hS : va_S A s.heap s.heap [] := va_S.rf
  have hA : xx_A sk A s := hV.2
  have hW : xx_W D E A ad sk σ s s.heap := hV.1
  unfold xxw_close at hw
  refine lv_iconst (v := (0 : Int32)) hx hb dX0_close_0 (by decide) ?_
  refine lv_istore_n (lv' := [(2, .int (0 : Int32)), (0, .ref (ad 0)), (1, .int a1)]) hx hb dX0_close_1 rfl hl (by decide) rfl (fun ls hl => ?_)
  refine lv_iconst (v := (0 : Int32)) hx hb dX0_close_2 (by decide) ?_
  refine lv_istore_n (lv' := [(3, .int (0 : Int32)), (2, .int (0 : Int32)), (0, .ref (ad 0)), (1, .int a1)]) hx hb dX0_close_3 rfl hl (by decide) rfl (fun ls hl => ?_)
  refine lv_iconst (v := (0 : Int32)) hx hb dX0_close_4 (by decide) ?_
  refine lv_istore (lv' := [(4, .int (0 : Int32)), (3, .int (0 : Int32)), (2, .int (0 : Int32)), (0, .ref (ad 0)), (1, .int a1)]) hx hb dX0_close_5 hl (by decide) rfl (fun ls hl => ?_)
  obtain ⟨n9, hw⟩ := hw
  exact xxk_close_7  C0 hA  n9 a1 (0 : Int32) (0 : Int32) (0 : Int32) σ _ _ _ hw hW hS (lv_sub hl [3, 4, 2, 1, 0] rfl)
theorem cd_X0_isSheet : yX0_isSheet.cls = RX0 ∧ yX0_isSheet.cls ≠ "java/lang/invoke/MethodHandle" ∧ yX0_isSheet.cls ≠ "java/lang/invoke/VarHandle" ∧ (parseMethodDescriptor yX0_isSheet.desc).map (fun d => d.parameters.length) = some 1 := by decide +kernel
/-! GleanersForGaps.isSheet(I)Z -/
def xxw_isSheet  (a0 : Int32) (σ : xx_S) (Q : Int32 → xx_S → Prop) : Prop :=
    (xxw_in ((a0).toInt64) (0 : Int64) (3 : Int64) σ (fun r2 σ1 => Q r2 σ1))
abbrev xxr_isSheet : Room := { frames := 1, cells := 0, slots := 0, locals := 25 }
set_option maxHeartbeats 4000000 in
set_option maxRecDepth 100000 in
theorem xxt_isSheet (l : Launch) {D : va_G} {E : Nat → ClassId} {A : Nat → Prop} {ad sk : Nat → Nat}  (a0 : Int32) (σ : xx_S) {Q : Int32 → xx_S → Prop} (hw : xxw_isSheet a0 σ Q) :
    Met l yX0_isSheet (ws_ yX0_isSheet cX0_isSheet 1 (some .boolean)) xxr_isSheet (va_Pc [.int a0] (fun U => xx_V D E A ad sk σ U U.heap)) (va_Qi (fun r u => (r = 0 ∨ r = 1) ∧ Q r u) (fun u t => xx_W D E A ad sk u t t.heap) A) 0 0 A := by
  refine gg_entry (W0 := fun s H => xx_V D E A ad sk σ s H) (by decide) (Nat.le_of_ble_eq_true rfl) ?_
  intro p e s m args below meth c C0 hV ls hl
  have C0 : gg_C p s m args meth c RX0 cX0_isSheet 1 (some .boolean) := C0
  obtain ⟨hx, hb, hml, hown, hts, hr, hlocks⟩ := id C0
  have hl : lv_has ls 1 [(0, .int a0)] := hl
  have hS : va_S A s.heap s.heap [] := va_S.rf
  have hA : xx_A sk A s := hV.2
  have hW : xx_W D E A ad sk σ s s.heap := hV.1
  unfold xxw_isSheet at hw
  refine lv_iload_n hx hb dX0_isSheet_0 rfl (lv_at hl 0 rfl) ?_
  refine lv_i2l (v := (a0).toInt64) hx hb dX0_isSheet_1 rfl ?_
  refine lv_lconst (v := (0 : Int64)) hx hb dX0_isSheet_2 (by decide) ?_
  refine lv_ldc2 (own := RX0) (v := (3 : Int64)) hx hb hown (hts _ q223) dX0_isSheet_3 ?_
  refine xx_SI ⟨hx, hb, hml, hown, hts⟩ hA (xxt_in l _ _ _ _ hw) (va_cwS 3 hts (lw_S q139 q140 q103 q141) rfl rfl rfl cd_X0_in.2 ⟨Nat.le_of_ble_eq_true rfl, Nat.le_of_ble_eq_true rfl⟩) hW hS rfl hl.1 rfl (Nat.le_of_ble_eq_true rfl) dX0_isSheet_6 (fun r2 σ1 H locs hw hW hS => ?_)
  obtain ⟨hz_r2, hw⟩ := hw
  exact gg_zret (xx_mv D E A ad sk) C0 hW hS (hz_r2) hw dX0_isSheet_9
theorem cd_X0_takenDrawn : yX0_takenDrawn.cls = RX0 ∧ yX0_takenDrawn.cls ≠ "java/lang/invoke/MethodHandle" ∧ yX0_takenDrawn.cls ≠ "java/lang/invoke/VarHandle" ∧ (parseMethodDescriptor yX0_takenDrawn.desc).map (fun d => d.parameters.length) = some 2 := by decide +kernel
/-! GleanersForGaps.takenDrawn(II)I -/
def xxw_takenDrawn_66  (Q : Int32 → xx_S → Prop) (K25 : Int32 → Int32 → Int32 → xx_S → Prop) (x2 : Int32) (x3 : Int32) (x4 : Int32) (s1 : Int32) (s2 : Int32) (s3 : Int32) (σ : xx_S) : Prop :=
    vp_in s1 4 ∧ (∀ σ7 : xx_S, σ7 = xx_s σ 2 s1.toNatClampNeg (s2 ||| s3) → K25 x2 x3 (x4 + (1 : Int32)) σ7)
def xxw_takenDrawn_25  (Q : Int32 → xx_S → Prop)  : Nat → Int32 → Int32 → Int32 → xx_S → Prop
  | 0, _, _, _, _ => False
  | n + 1, x2, x3, x4, σ =>
    ((((24 : Int32) ≤ x4) → (xxw_gleans x2 (0 : Int32) σ (fun r5 σ4 => (xxw_laysBack (0 : Int32) σ4 (fun σ6 => Q r5 σ6))))) ∧ (¬ ((24 : Int32) ≤ x4) → vp_in (0 : Int32) 4 ∧ ((((((((x3 * (1103515245 : Int32)) + (12345 : Int32))).toUInt32 >>> (((9 : Int32)).toUInt32 &&& Int32.toUInt32 31)).toInt32 - ((((x3 * (1103515245 : Int32)) + (12345 : Int32))).toUInt32 >>> (((9 : Int32)).toUInt32 &&& Int32.toUInt32 31)).toInt32 / (3 : Int32) * (3 : Int32)) = 0) → xxw_takenDrawn_66 Q (fun y0 y1 y2 τ => xxw_takenDrawn_25 Q n y0 y1 y2 τ) x2 ((x3 * (1103515245 : Int32)) + (12345 : Int32)) x4 (0 : Int32) (xx_g σ 2 (0 : Int32).toNatClampNeg) (0 : Int32) σ) ∧ (¬ ((((((x3 * (1103515245 : Int32)) + (12345 : Int32))).toUInt32 >>> (((9 : Int32)).toUInt32 &&& Int32.toUInt32 31)).toInt32 - ((((x3 * (1103515245 : Int32)) + (12345 : Int32))).toUInt32 >>> (((9 : Int32)).toUInt32 &&& Int32.toUInt32 31)).toInt32 / (3 : Int32) * (3 : Int32)) = 0) → xxw_takenDrawn_66 Q (fun y0 y1 y2 τ => xxw_takenDrawn_25 Q n y0 y1 y2 τ) x2 ((x3 * (1103515245 : Int32)) + (12345 : Int32)) x4 (0 : Int32) (xx_g σ 2 (0 : Int32).toNatClampNeg) ((1 : Int32) <<< (x4 &&& 31)) σ))))
def xxw_takenDrawn  (a1 : Int32) (a2 : Int32) (σ : xx_S) (Q : Int32 → xx_S → Prop) : Prop :=
    (xxw_keeps (0 : Int32) σ (fun σ1 => vp_in (0 : Int32) 4 ∧ (∀ σ2 : xx_S, σ2 = xx_s σ1 1 (0 : Int32).toNatClampNeg (24 : Int32) → vp_in (0 : Int32) 4 ∧ (∀ σ3 : xx_S, σ3 = xx_s σ2 2 (0 : Int32).toNatClampNeg (0 : Int32) → ∃ k9, xxw_takenDrawn_25 Q k9 a2 a1 (0 : Int32) σ3))))
abbrev xxr_takenDrawn : Room := { frames := 206, cells := 0, slots := 0, locals := 6102 }
set_option maxHeartbeats 4000000 in
set_option maxRecDepth 100000 in
theorem xxk_takenDrawn_66 {p : Program} {l : Launch} {e : Env} {s : State} {m : MethodId} {args : Array Value} {below : List Frame} {meth : Method} {c : Code} {D : va_G} {E : Nat → ClassId} {A : Nat → Prop} {ad sk : Nat → Nat} {Q : Int32 → xx_S → Prop} {K25 : Int32 → Int32 → Int32 → xx_S → Prop}  (C0 : gg_C p s m args meth c RX0 cX0_takenDrawn 6 (some .int)) (hA : xx_A sk A s) (hK25 : ∀ (x2 : Int32) (x3 : Int32) (x4 : Int32) (σ : xx_S) (H : Heap) (locs : List Loc) (ls : Array Slot), K25 x2 x3 x4 σ → xx_W D E A ad sk σ s H → va_S A s.heap H locs → lv_has ls 6 [(0, .ref (ad 0)), (2, .int x2), (3, .int x3), (4, .int x4)] → W p l e xxr_takenDrawn s m args below meth c H locs 0 0 (MQ below (va_Qi Q (fun u t => xx_W D E A ad sk u t t.heap) A) args s 0 0 A) (F0 m 25 ls [])) :
    ∀ (x2 : Int32) (x3 : Int32) (x4 : Int32) (s1 : Int32) (s2 : Int32) (s3 : Int32) (σ : xx_S) (H : Heap) (locs : List Loc) (ls : Array Slot), xxw_takenDrawn_66 Q K25 x2 x3 x4 s1 s2 s3 σ → xx_W D E A ad sk σ s H → va_S A s.heap H locs → lv_has ls 6 [(0, .ref (ad 0)), (2, .int x2), (3, .int x3), (4, .int x4)] → W p l e xxr_takenDrawn s m args below meth c H locs 0 0 (MQ below (va_Qi Q (fun u t => xx_W D E A ad sk u t t.heap) A) args s 0 0 A) (F0 m 66 ls [.int s3, .int s2, .int s1, .ref (ad 2)]) := by
  obtain ⟨hx, hb, hml, hown, hts, hr, hlocks⟩ := id C0
  intro x2 x3 x4 s1 s2 s3 σ H locs ls hw hW hS hl
  unfold xxw_takenDrawn_66 at hw
  refine lv_ior hx hb dX0_takenDrawn_66 ?_
  obtain ⟨hin, hw⟩ := hw
  refine xx_ast hx hb hW hS 2 4 (by decide) rfl hin dX0_takenDrawn_67 (fun H locs hW hS => ?_)
  obtain ⟨σ7, eσ7⟩ : ∃ z, z = xx_s σ 2 s1.toNatClampNeg (s2 ||| s3) := ⟨_, rfl⟩
  rw [← eσ7] at hW
  have hw := hw σ7 eσ7
  refine lv_iinc (v := (x4 + (1 : Int32))) (lv' := [(4, .int (x4 + (1 : Int32))), (0, .ref (ad 0)), (2, .int x2), (3, .int x3)]) hx hb dX0_takenDrawn_68 hl (k := 3) rfl rfl (by decide) rfl (fun ls hl => ?_)
  refine lv_goto (tgt := 25) hx hb dX0_takenDrawn_71 (by decide) ?_
  exact hK25 x2 x3 (x4 + (1 : Int32)) σ7 _ _ _ hw hW hS (lv_sub hl [1, 2, 3, 0] rfl)
set_option maxHeartbeats 4000000 in
set_option maxRecDepth 100000 in
theorem xxk_takenDrawn_25 {p : Program} {l : Launch} {e : Env} {s : State} {m : MethodId} {args : Array Value} {below : List Frame} {meth : Method} {c : Code} {D : va_G} {E : Nat → ClassId} {A : Nat → Prop} {ad sk : Nat → Nat} {Q : Int32 → xx_S → Prop}   (C0 : gg_C p s m args meth c RX0 cX0_takenDrawn 6 (some .int)) (hA : xx_A sk A s) :
    ∀ n : Nat, ∀ (x2 : Int32) (x3 : Int32) (x4 : Int32) (σ : xx_S) (H : Heap) (locs : List Loc) (ls : Array Slot), xxw_takenDrawn_25 Q n x2 x3 x4 σ → xx_W D E A ad sk σ s H → va_S A s.heap H locs → lv_has ls 6 [(0, .ref (ad 0)), (2, .int x2), (3, .int x3), (4, .int x4)] → W p l e xxr_takenDrawn s m args below meth c H locs 0 0 (MQ below (va_Qi Q (fun u t => xx_W D E A ad sk u t t.heap) A) args s 0 0 A) (F0 m 25 ls []) := by
  obtain ⟨hx, hb, hml, hown, hts, hr, hlocks⟩ := id C0
  intro n
  induction n with
  | zero =>
    intro x2 x3 x4 σ H locs ls hw hW hS hl
    exact absurd hw (by unfold xxw_takenDrawn_25; exact id)
  | succ n ih =>
    intro x2 x3 x4 σ H locs ls hw hW hS hl
    unfold xxw_takenDrawn_25 at hw
    refine lv_iload hx hb dX0_takenDrawn_25 (lv_at hl 3 rfl) ?_
    refine lv_bipush (v := (24 : Int32)) hx hb dX0_takenDrawn_27 (by decide) ?_
    refine lv_icmp_ge (tgt := 74) hx hb dX0_takenDrawn_29 (by decide) (fun c9 => ?_) (fun c9 => ?_)
    · have hw := hw.1 c9
      refine lv_aload_n hx hb dX0_takenDrawn_74 rfl (lv_at hl 0 rfl) ?_
      refine lv_iload_n hx hb dX0_takenDrawn_75 rfl (lv_at hl 1 rfl) ?_
      refine lv_iconst (v := (0 : Int32)) hx hb dX0_takenDrawn_76 (by decide) ?_
      refine xx_VI ⟨hx, hb, hml, hown, hts⟩ hA (xxt_gleans l _ _ _ hw) (cwV 2 hts (lw_V q926 q928 qs34 q103 q929) rfl rfl rfl cd_X0_gleans ⟨Nat.le_of_ble_eq_true rfl, Nat.le_of_ble_eq_true rfl⟩) hW (xx_recv hW) hS rfl hl.1 rfl (Nat.le_of_ble_eq_true rfl) dX0_takenDrawn_77 (fun r5 σ4 H locs hw hW hS => ?_)
      refine lv_istore (lv' := [(4, .int r5), (0, .ref (ad 0)), (2, .int x2), (3, .int x3)]) hx hb dX0_takenDrawn_80 hl (by decide) rfl (fun ls hl => ?_)
      refine lv_aload_n hx hb dX0_takenDrawn_82 rfl (lv_at hl 1 rfl) ?_
      refine lv_iconst (v := (0 : Int32)) hx hb dX0_takenDrawn_83 (by decide) ?_
      refine xx_VV ⟨hx, hb, hml, hown, hts⟩ hA (xxt_laysBack l _ _ hw) (cwV 1 hts (lw_V q973 q975 qs42 q103 q976) rfl rfl rfl cd_X0_laysBack ⟨Nat.le_of_ble_eq_true rfl, Nat.le_of_ble_eq_true rfl⟩) hW (xx_recv hW) hS rfl hl.1 rfl (Nat.le_of_ble_eq_true rfl) dX0_takenDrawn_84 (fun σ6 H locs hw hW hS => ?_)
      refine lv_iload hx hb dX0_takenDrawn_87 (lv_at hl 0 rfl) ?_
      exact gg_iret (xx_mv D E A ad sk) C0 hW hS hw dX0_takenDrawn_89
    · have hw := hw.2 c9
      refine lv_iload_n hx hb dX0_takenDrawn_32 rfl (lv_at hl 2 rfl) ?_
      refine lv_ldcw (own := RX0) (v := (1103515245 : Int32)) hx hb hown (hts _ q1209) dX0_takenDrawn_33 ?_
      refine lv_imul hx hb dX0_takenDrawn_36 ?_
      refine lv_sipush (v := (12345 : Int32)) hx hb dX0_takenDrawn_37 (by decide) ?_
      refine lv_iadd hx hb dX0_takenDrawn_40 ?_
      refine lv_istore_n (lv' := [(3, .int ((x3 * (1103515245 : Int32)) + (12345 : Int32))), (0, .ref (ad 0)), (2, .int x2), (4, .int x4)]) hx hb dX0_takenDrawn_41 rfl hl (by decide) rfl (fun ls hl => ?_)
      refine lv_aload_n hx hb dX0_takenDrawn_42 rfl (lv_at hl 1 rfl) ?_
      refine xx_getr hx hb hts hown hW 4 2 (by decide) q749 dX0_takenDrawn_43 ?_
      refine lv_iconst (v := (0 : Int32)) hx hb dX0_takenDrawn_46 (by decide) ?_
      refine lv_dup2_11 hx hb dX0_takenDrawn_47 rfl rfl ?_
      obtain ⟨hin, hw⟩ := hw
      refine xx_ald hx hb hW 2 4 (by decide) rfl hin dX0_takenDrawn_48 ?_
      refine lv_iload_n hx hb dX0_takenDrawn_49 rfl (lv_at hl 0 rfl) ?_
      refine lv_bipush (v := (9 : Int32)) hx hb dX0_takenDrawn_50 (by decide) ?_
      refine lv_iushr (v := ((((x3 * (1103515245 : Int32)) + (12345 : Int32))).toUInt32 >>> (((9 : Int32)).toUInt32 &&& Int32.toUInt32 31)).toInt32) hx hb dX0_takenDrawn_52 rfl ?_
      refine lv_iconst (v := (3 : Int32)) hx hb dX0_takenDrawn_53 (by decide) ?_
      refine lv_irem hx hb dX0_takenDrawn_54 (by decide) ?_
      refine lv_if_eq (tgt := 65) hx hb dX0_takenDrawn_55 (by decide) (fun c8 => ?_) (fun c8 => ?_)
      · have hw := hw.1 c8
        refine lv_iconst (v := (0 : Int32)) hx hb dX0_takenDrawn_65 (by decide) ?_
        exact xxk_takenDrawn_66  C0 hA (fun y0 y1 y2 τ H9 l9 s9 => ih y0 y1 y2 τ H9 l9 s9) x2 ((x3 * (1103515245 : Int32)) + (12345 : Int32)) x4 (0 : Int32) (xx_g σ 2 (0 : Int32).toNatClampNeg) (0 : Int32) σ _ _ _ hw hW hS (lv_sub hl [1, 2, 0, 3] rfl)
      · have hw := hw.2 c8
        refine lv_iconst (v := (1 : Int32)) hx hb dX0_takenDrawn_58 (by decide) ?_
        refine lv_iload hx hb dX0_takenDrawn_59 (lv_at hl 3 rfl) ?_
        refine lv_ishl hx hb dX0_takenDrawn_61 ?_
        refine lv_goto (tgt := 66) hx hb dX0_takenDrawn_62 (by decide) ?_
        exact xxk_takenDrawn_66  C0 hA (fun y0 y1 y2 τ H9 l9 s9 => ih y0 y1 y2 τ H9 l9 s9) x2 ((x3 * (1103515245 : Int32)) + (12345 : Int32)) x4 (0 : Int32) (xx_g σ 2 (0 : Int32).toNatClampNeg) ((1 : Int32) <<< (x4 &&& 31)) σ _ _ _ hw hW hS (lv_sub hl [1, 2, 0, 3] rfl)
set_option maxHeartbeats 4000000 in
set_option maxRecDepth 100000 in
theorem xxt_takenDrawn (l : Launch) {D : va_G} {E : Nat → ClassId} {A : Nat → Prop} {ad sk : Nat → Nat}  (a1 : Int32) (a2 : Int32) (σ : xx_S) {Q : Int32 → xx_S → Prop} (hw : xxw_takenDrawn a1 a2 σ Q) :
    Met l yX0_takenDrawn (wsW_ yX0_takenDrawn cX0_takenDrawn 6 (some .int) [(7, 82, 90, 0), (90, 92, 90, 0)]) xxr_takenDrawn (va_Pc [.ref (ad 0), .int a1, .int a2] (fun U => xx_V D E A ad sk σ U U.heap)) (va_Qi Q (fun u t => xx_W D E A ad sk u t t.heap) A) 0 0 A := by
  refine gg_entryW (W0 := fun s H => xx_V D E A ad sk σ s H) (by decide) (Nat.le_of_ble_eq_true rfl) ?_
  intro p e s m args below meth c C0 hV ls hl
  have C0 : gg_C p s m args meth c RX0 cX0_takenDrawn 6 (some .int) := C0
  obtain ⟨hx, hb, hml, hown, hts, hr, hlocks⟩ := id C0
  have hl : lv_has ls 6 [(0, .ref (ad 0)), (1, .int a1), (2, .int a2)] := hl
  have hS : va_S A s.heap s.heap [] := va_S.rf
  have hA : xx_A sk A s := hV.2
  have hW : xx_W D E A ad sk σ s s.heap := hV.1
  unfold xxw_takenDrawn at hw
  refine lv_iload_n hx hb dX0_takenDrawn_0 rfl (lv_at hl 1 rfl) ?_
  refine lv_istore_n (lv' := [(3, .int a1), (0, .ref (ad 0)), (1, .int a1), (2, .int a2)]) hx hb dX0_takenDrawn_1 rfl hl (by decide) rfl (fun ls hl => ?_)
  refine lv_aload_n hx hb dX0_takenDrawn_2 rfl (lv_at hl 1 rfl) ?_
  refine lv_iconst (v := (0 : Int32)) hx hb dX0_takenDrawn_3 (by decide) ?_
  refine xx_VV ⟨hx, hb, hml, hown, hts⟩ hA (xxt_keeps l _ _ hw) (cwV 1 hts (lw_V q966 q968 qs41 q103 q969) rfl rfl rfl cd_X0_keeps ⟨Nat.le_of_ble_eq_true rfl, Nat.le_of_ble_eq_true rfl⟩) hW (xx_recv hW) hS rfl hl.1 rfl (Nat.le_of_ble_eq_true rfl) dX0_takenDrawn_4 (fun σ1 H locs hw hW hS => ?_)
  refine lv_aload_n hx hb dX0_takenDrawn_7 rfl (lv_at hl 1 rfl) ?_
  refine xx_getr hx hb hts hown hW 3 1 (by decide) q748 dX0_takenDrawn_8 ?_
  refine lv_iconst (v := (0 : Int32)) hx hb dX0_takenDrawn_11 (by decide) ?_
  refine lv_bipush (v := (24 : Int32)) hx hb dX0_takenDrawn_12 (by decide) ?_
  obtain ⟨hin, hw⟩ := hw
  refine xx_ast hx hb hW hS 1 4 (by decide) rfl hin dX0_takenDrawn_14 (fun H locs hW hS => ?_)
  obtain ⟨σ2, eσ2⟩ : ∃ z, z = xx_s σ1 1 (0 : Int32).toNatClampNeg (24 : Int32) := ⟨_, rfl⟩
  rw [← eσ2] at hW
  have hw := hw σ2 eσ2
  refine lv_aload_n hx hb dX0_takenDrawn_15 rfl (lv_at hl 1 rfl) ?_
  refine xx_getr hx hb hts hown hW 4 2 (by decide) q749 dX0_takenDrawn_16 ?_
  refine lv_iconst (v := (0 : Int32)) hx hb dX0_takenDrawn_19 (by decide) ?_
  refine lv_iconst (v := (0 : Int32)) hx hb dX0_takenDrawn_20 (by decide) ?_
  obtain ⟨hin, hw⟩ := hw
  refine xx_ast hx hb hW hS 2 4 (by decide) rfl hin dX0_takenDrawn_21 (fun H locs hW hS => ?_)
  obtain ⟨σ3, eσ3⟩ : ∃ z, z = xx_s σ2 2 (0 : Int32).toNatClampNeg (0 : Int32) := ⟨_, rfl⟩
  rw [← eσ3] at hW
  have hw := hw σ3 eσ3
  refine lv_iconst (v := (0 : Int32)) hx hb dX0_takenDrawn_22 (by decide) ?_
  refine lv_istore (lv' := [(4, .int (0 : Int32)), (3, .int a1), (0, .ref (ad 0)), (1, .int a1), (2, .int a2)]) hx hb dX0_takenDrawn_23 hl (by decide) rfl (fun ls hl => ?_)
  obtain ⟨n9, hw⟩ := hw
  exact xxk_takenDrawn_25  C0 hA  n9 a2 a1 (0 : Int32) σ3 _ _ _ hw hW hS (lv_sub hl [2, 4, 1, 0] rfl)
theorem cd_X0_drawn : yX0_drawn.cls = RX0 ∧ yX0_drawn.cls ≠ "java/lang/invoke/MethodHandle" ∧ yX0_drawn.cls ≠ "java/lang/invoke/VarHandle" ∧ (parseMethodDescriptor yX0_drawn.desc).map (fun d => d.parameters.length) = some 2 := by decide +kernel
/-! GleanersForGaps.drawn(II)I -/
def xxw_drawn  (a1 : Int32) (a2 : Int32) (σ : xx_S) (Q : Int32 → xx_S → Prop) : Prop :=
    (xxw_isOne a2 σ (fun r2 σ1 => (((r2 = 0) → Q (-100 : Int32) σ1) ∧ (¬ (r2 = 0) → (xxw_takenDrawn a1 a2 σ1 (fun r4 σ3 => Q r4 σ3))))))
abbrev xxr_drawn : Room := { frames := 207, cells := 0, slots := 0, locals := 6127 }
set_option maxHeartbeats 4000000 in
set_option maxRecDepth 100000 in
theorem xxt_drawn (l : Launch) {D : va_G} {E : Nat → ClassId} {A : Nat → Prop} {ad sk : Nat → Nat}  (a1 : Int32) (a2 : Int32) (σ : xx_S) {Q : Int32 → xx_S → Prop} (hw : xxw_drawn a1 a2 σ Q) :
    Met l yX0_drawn (ws_ yX0_drawn cX0_drawn 3 (some .int)) xxr_drawn (va_Pc [.ref (ad 0), .int a1, .int a2] (fun U => xx_V D E A ad sk σ U U.heap)) (va_Qi Q (fun u t => xx_W D E A ad sk u t t.heap) A) 0 0 A := by
  refine gg_entry (W0 := fun s H => xx_V D E A ad sk σ s H) (by decide) (Nat.le_of_ble_eq_true rfl) ?_
  intro p e s m args below meth c C0 hV ls hl
  have C0 : gg_C p s m args meth c RX0 cX0_drawn 3 (some .int) := C0
  obtain ⟨hx, hb, hml, hown, hts, hr, hlocks⟩ := id C0
  have hl : lv_has ls 3 [(0, .ref (ad 0)), (1, .int a1), (2, .int a2)] := hl
  have hS : va_S A s.heap s.heap [] := va_S.rf
  have hA : xx_A sk A s := hV.2
  have hW : xx_W D E A ad sk σ s s.heap := hV.1
  unfold xxw_drawn at hw
  refine lv_aload_n hx hb dX0_drawn_0 rfl (lv_at hl 0 rfl) ?_
  refine lv_iload_n hx hb dX0_drawn_1 rfl (lv_at hl 2 rfl) ?_
  refine xx_VI ⟨hx, hb, hml, hown, hts⟩ hA (xxt_isOne l _ _ hw) (cwV 1 hts (lw_V q245 q247 qs2 q103 q248) rfl rfl rfl cd_X0_isOne ⟨Nat.le_of_ble_eq_true rfl, Nat.le_of_ble_eq_true rfl⟩) hW (xx_recv hW) hS rfl hl.1 rfl (Nat.le_of_ble_eq_true rfl) dX0_drawn_2 (fun r2 σ1 H locs hw hW hS => ?_)
  obtain ⟨hz_r2, hw⟩ := hw
  refine lv_if_eq (tgt := 17) hx hb dX0_drawn_5 (by decide) (fun c5 => ?_) (fun c5 => ?_)
  · have hw := hw.1 c5
    refine lv_bipush (v := (-100 : Int32)) hx hb dX0_drawn_17 (by decide) ?_
    exact gg_iret (xx_mv D E A ad sk) C0 hW hS hw dX0_drawn_19
  · have hw := hw.2 c5
    refine lv_aload_n hx hb dX0_drawn_8 rfl (lv_at hl 0 rfl) ?_
    refine lv_iload_n hx hb dX0_drawn_9 rfl (lv_at hl 1 rfl) ?_
    refine lv_iload_n hx hb dX0_drawn_10 rfl (lv_at hl 2 rfl) ?_
    refine xx_WI ⟨hx, hb, hml, hown, hts⟩ hA (xxt_takenDrawn l _ _ _ hw) (vx_cwVW (hh := [(7, 82, 90, 0), (90, 92, 90, 0)]) 2 hts (lw_VW q1205 q1207 qs57 q103 q1208) rfl rfl rfl cd_X0_takenDrawn ⟨Nat.le_of_ble_eq_true rfl, Nat.le_of_ble_eq_true rfl⟩) hW (xx_recv hW) hS rfl hl.1 rfl (Nat.le_of_ble_eq_true rfl) dX0_drawn_11 (fun r4 σ3 H locs hw hW hS => ?_)
    refine lv_goto (tgt := 19) hx hb dX0_drawn_14 (by decide) ?_
    exact gg_iret (xx_mv D E A ad sk) C0 hW hS hw dX0_drawn_19
theorem cd_X0_chance : yX0_chance.cls = RX0 ∧ yX0_chance.cls ≠ "java/lang/invoke/MethodHandle" ∧ yX0_chance.cls ≠ "java/lang/invoke/VarHandle" ∧ (parseMethodDescriptor yX0_chance.desc).map (fun d => d.parameters.length) = some 5 := by decide +kernel
/-! GleanersForGaps.chance(IIIII)J -/
def xxw_chance_81  (Q : Int64 → xx_S → Prop) (K54 : Int32 → Int32 → Int32 → Int32 → Int32 → Int64 → Int32 → xx_S → Prop) (x1 : Int32) (x2 : Int32) (x3 : Int32) (x4 : Int32) (x5 : Int32) (x8 : Int32) (s0 : Int64) (s1 : Int64) (σ : xx_S) : Prop :=
    K54 x1 x2 x3 x4 x5 (s0 + s1) (x8 + (1 : Int32)) σ
def xxw_chance_54  (Q : Int64 → xx_S → Prop)  : Nat → Int32 → Int32 → Int32 → Int32 → Int32 → Int64 → Int32 → xx_S → Prop
  | 0, _, _, _, _, _, _, _, _ => False
  | n + 1, x1, x2, x3, x4, x5, x6, x8, σ =>
    (((x2 ≤ x8) → (xxw_lowest x6 ((x2).toInt64) x5 σ (fun r10 σ9 => Q r10 σ9))) ∧ (¬ (x2 ≤ x8) → (xxw_takenDrawn (x1 + x8) x3 σ (fun r12 σ11 => (((r12 < x4) → xxw_chance_81 Q (fun y0 y1 y2 y3 y4 y5 y6 τ => xxw_chance_54 Q n y0 y1 y2 y3 y4 y5 y6 τ) x1 x2 x3 x4 x5 x8 x6 (0 : Int64) σ11) ∧ (¬ (r12 < x4) → xxw_chance_81 Q (fun y0 y1 y2 y3 y4 y5 y6 τ => xxw_chance_54 Q n y0 y1 y2 y3 y4 y5 y6 τ) x1 x2 x3 x4 x5 x8 x6 (1 : Int64) σ11))))))
def xxw_chance  (a1 : Int32) (a2 : Int32) (a3 : Int32) (a4 : Int32) (a5 : Int32) (σ : xx_S) (Q : Int64 → xx_S → Prop) : Prop :=
    (xxw_in ((a2).toInt64) (1 : Int64) (20 : Int64) σ (fun r2 σ1 => (((r2 = 0) → Q (-4611686018427387904 : Int64) σ1) ∧ (¬ (r2 = 0) → (xxw_isOne a3 σ1 (fun r4 σ3 => (((r4 = 0) → Q (-4611686018427387904 : Int64) σ3) ∧ (¬ (r4 = 0) → (xxw_in ((a4).toInt64) (0 : Int64) (24 : Int64) σ3 (fun r6 σ5 => (((r6 = 0) → Q (-4611686018427387904 : Int64) σ5) ∧ (¬ (r6 = 0) → (xxw_in ((a5).toInt64) (0 : Int64) (1 : Int64) σ5 (fun r8 σ7 => (((r8 = 0) → Q (-4611686018427387904 : Int64) σ7) ∧ (¬ (r8 = 0) → ∃ k9, xxw_chance_54 Q k9 a1 a2 a3 a4 a5 (0 : Int64) (0 : Int32) σ7))))))))))))))))
abbrev xxr_chance : Room := { frames := 207, cells := 0, slots := 0, locals := 6127 }
set_option maxHeartbeats 4000000 in
set_option maxRecDepth 100000 in
theorem xxk_chance_81 {p : Program} {l : Launch} {e : Env} {s : State} {m : MethodId} {args : Array Value} {below : List Frame} {meth : Method} {c : Code} {D : va_G} {E : Nat → ClassId} {A : Nat → Prop} {ad sk : Nat → Nat} {Q : Int64 → xx_S → Prop} {K54 : Int32 → Int32 → Int32 → Int32 → Int32 → Int64 → Int32 → xx_S → Prop}  (C0 : gg_C p s m args meth c RX0 cX0_chance 9 (some .long)) (hA : xx_A sk A s) (hK54 : ∀ (x1 : Int32) (x2 : Int32) (x3 : Int32) (x4 : Int32) (x5 : Int32) (x6 : Int64) (x8 : Int32) (σ : xx_S) (H : Heap) (locs : List Loc) (ls : Array Slot), K54 x1 x2 x3 x4 x5 x6 x8 σ → xx_W D E A ad sk σ s H → va_S A s.heap H locs → lv_has ls 9 [(0, .ref (ad 0)), (1, .int x1), (2, .int x2), (3, .int x3), (4, .int x4), (5, .int x5), (6, .long x6), (8, .int x8)] → W p l e xxr_chance s m args below meth c H locs 0 0 (MQ below (va_Ql Q (fun u t => xx_W D E A ad sk u t t.heap) A) args s 0 0 A) (F0 m 54 ls [])) :
    ∀ (x1 : Int32) (x2 : Int32) (x3 : Int32) (x4 : Int32) (x5 : Int32) (x8 : Int32) (s0 : Int64) (s1 : Int64) (σ : xx_S) (H : Heap) (locs : List Loc) (ls : Array Slot), xxw_chance_81 Q K54 x1 x2 x3 x4 x5 x8 s0 s1 σ → xx_W D E A ad sk σ s H → va_S A s.heap H locs → lv_has ls 9 [(0, .ref (ad 0)), (1, .int x1), (2, .int x2), (3, .int x3), (4, .int x4), (5, .int x5), (8, .int x8)] → W p l e xxr_chance s m args below meth c H locs 0 0 (MQ below (va_Ql Q (fun u t => xx_W D E A ad sk u t t.heap) A) args s 0 0 A) (F0 m 81 ls [.long s1, .long s0]) := by
  obtain ⟨hx, hb, hml, hown, hts, hr, hlocks⟩ := id C0
  intro x1 x2 x3 x4 x5 x8 s0 s1 σ H locs ls hw hW hS hl
  unfold xxw_chance_81 at hw
  refine lv_ladd hx hb dX0_chance_81 ?_
  refine lv_lstore (lv' := [(6, .long (s0 + s1)), (0, .ref (ad 0)), (1, .int x1), (2, .int x2), (3, .int x3), (4, .int x4), (5, .int x5), (8, .int x8)]) hx hb dX0_chance_82 hl (by decide) rfl (fun ls hl => ?_)
  refine lv_iinc (v := (x8 + (1 : Int32))) (lv' := [(8, .int (x8 + (1 : Int32))), (6, .long (s0 + s1)), (0, .ref (ad 0)), (1, .int x1), (2, .int x2), (3, .int x3), (4, .int x4), (5, .int x5)]) hx hb dX0_chance_84 hl (k := 7) rfl rfl (by decide) rfl (fun ls hl => ?_)
  refine lv_goto (tgt := 54) hx hb dX0_chance_87 (by decide) ?_
  exact hK54 x1 x2 x3 x4 x5 (s0 + s1) (x8 + (1 : Int32)) σ _ _ _ hw hW hS (lv_sub hl [2, 3, 4, 5, 6, 7, 1, 0] rfl)
set_option maxHeartbeats 4000000 in
set_option maxRecDepth 100000 in
theorem xxk_chance_54 {p : Program} {l : Launch} {e : Env} {s : State} {m : MethodId} {args : Array Value} {below : List Frame} {meth : Method} {c : Code} {D : va_G} {E : Nat → ClassId} {A : Nat → Prop} {ad sk : Nat → Nat} {Q : Int64 → xx_S → Prop}   (C0 : gg_C p s m args meth c RX0 cX0_chance 9 (some .long)) (hA : xx_A sk A s) :
    ∀ n : Nat, ∀ (x1 : Int32) (x2 : Int32) (x3 : Int32) (x4 : Int32) (x5 : Int32) (x6 : Int64) (x8 : Int32) (σ : xx_S) (H : Heap) (locs : List Loc) (ls : Array Slot), xxw_chance_54 Q n x1 x2 x3 x4 x5 x6 x8 σ → xx_W D E A ad sk σ s H → va_S A s.heap H locs → lv_has ls 9 [(0, .ref (ad 0)), (1, .int x1), (2, .int x2), (3, .int x3), (4, .int x4), (5, .int x5), (6, .long x6), (8, .int x8)] → W p l e xxr_chance s m args below meth c H locs 0 0 (MQ below (va_Ql Q (fun u t => xx_W D E A ad sk u t t.heap) A) args s 0 0 A) (F0 m 54 ls []) := by
  obtain ⟨hx, hb, hml, hown, hts, hr, hlocks⟩ := id C0
  intro n
  induction n with
  | zero =>
    intro x1 x2 x3 x4 x5 x6 x8 σ H locs ls hw hW hS hl
    exact absurd hw (by unfold xxw_chance_54; exact id)
  | succ n ih =>
    intro x1 x2 x3 x4 x5 x6 x8 σ H locs ls hw hW hS hl
    unfold xxw_chance_54 at hw
    refine lv_iload hx hb dX0_chance_54 (lv_at hl 7 rfl) ?_
    refine lv_iload_n hx hb dX0_chance_56 rfl (lv_at hl 2 rfl) ?_
    refine lv_icmp_ge (tgt := 90) hx hb dX0_chance_57 (by decide) (fun c14 => ?_) (fun c14 => ?_)
    · have hw := hw.1 c14
      refine lv_lload hx hb dX0_chance_90 (lv_at hl 6 rfl) ?_
      refine lv_iload_n hx hb dX0_chance_92 rfl (lv_at hl 2 rfl) ?_
      refine lv_i2l (v := (x2).toInt64) hx hb dX0_chance_93 rfl ?_
      refine lv_iload hx hb dX0_chance_94 (lv_at hl 5 rfl) ?_
      refine xx_SJ ⟨hx, hb, hml, hown, hts⟩ hA (xxt_lowest l _ _ _ _ hw) (va_cwS 3 hts (lw_S q1023 q1024 q103 q1025) rfl rfl rfl cd_X0_lowest.2 ⟨Nat.le_of_ble_eq_true rfl, Nat.le_of_ble_eq_true rfl⟩) hW hS rfl hl.1 rfl (Nat.le_of_ble_eq_true rfl) dX0_chance_96 (fun r10 σ9 H locs hw hW hS => ?_)
      exact gg_lret (xx_mv D E A ad sk) C0 hW hS hw dX0_chance_99
    · have hw := hw.2 c14
      refine lv_lload hx hb dX0_chance_60 (lv_at hl 6 rfl) ?_
      refine lv_aload_n hx hb dX0_chance_62 rfl (lv_at hl 0 rfl) ?_
      refine lv_iload_n hx hb dX0_chance_63 rfl (lv_at hl 1 rfl) ?_
      refine lv_iload hx hb dX0_chance_64 (lv_at hl 7 rfl) ?_
      refine lv_iadd hx hb dX0_chance_66 ?_
      refine lv_iload_n hx hb dX0_chance_67 rfl (lv_at hl 3 rfl) ?_
      refine xx_WI ⟨hx, hb, hml, hown, hts⟩ hA (xxt_takenDrawn l _ _ _ hw) (vx_cwVW (hh := [(7, 82, 90, 0), (90, 92, 90, 0)]) 2 hts (lw_VW q1205 q1207 qs57 q103 q1208) rfl rfl rfl cd_X0_takenDrawn ⟨Nat.le_of_ble_eq_true rfl, Nat.le_of_ble_eq_true rfl⟩) hW (xx_recv hW) hS rfl hl.1 rfl (Nat.le_of_ble_eq_true rfl) dX0_chance_68 (fun r12 σ11 H locs hw hW hS => ?_)
      refine lv_iload hx hb dX0_chance_71 (lv_at hl 4 rfl) ?_
      refine lv_icmp_lt (tgt := 80) hx hb dX0_chance_73 (by decide) (fun c13 => ?_) (fun c13 => ?_)
      · have hw := hw.1 c13
        refine lv_lconst (v := (0 : Int64)) hx hb dX0_chance_80 (by decide) ?_
        exact xxk_chance_81  C0 hA (fun y0 y1 y2 y3 y4 y5 y6 τ H9 l9 s9 => ih y0 y1 y2 y3 y4 y5 y6 τ H9 l9 s9) x1 x2 x3 x4 x5 x8 x6 (0 : Int64) σ11 _ _ _ hw hW hS (lv_sub hl [0, 1, 2, 3, 4, 5, 7] rfl)
      · have hw := hw.2 c13
        refine lv_lconst (v := (1 : Int64)) hx hb dX0_chance_76 (by decide) ?_
        refine lv_goto (tgt := 81) hx hb dX0_chance_77 (by decide) ?_
        exact xxk_chance_81  C0 hA (fun y0 y1 y2 y3 y4 y5 y6 τ H9 l9 s9 => ih y0 y1 y2 y3 y4 y5 y6 τ H9 l9 s9) x1 x2 x3 x4 x5 x8 x6 (1 : Int64) σ11 _ _ _ hw hW hS (lv_sub hl [0, 1, 2, 3, 4, 5, 7] rfl)
set_option maxHeartbeats 4000000 in
set_option maxRecDepth 100000 in
theorem xxt_chance (l : Launch) {D : va_G} {E : Nat → ClassId} {A : Nat → Prop} {ad sk : Nat → Nat}  (a1 : Int32) (a2 : Int32) (a3 : Int32) (a4 : Int32) (a5 : Int32) (σ : xx_S) {Q : Int64 → xx_S → Prop} (hw : xxw_chance a1 a2 a3 a4 a5 σ Q) :
    Met l yX0_chance (ws_ yX0_chance cX0_chance 9 (some .long)) xxr_chance (va_Pc [.ref (ad 0), .int a1, .int a2, .int a3, .int a4, .int a5] (fun U => xx_V D E A ad sk σ U U.heap)) (va_Ql Q (fun u t => xx_W D E A ad sk u t t.heap) A) 0 0 A := by
  refine gg_entry (W0 := fun s H => xx_V D E A ad sk σ s H) (by decide) (Nat.le_of_ble_eq_true rfl) ?_
  intro p e s m args below meth c C0 hV ls hl
  have C0 : gg_C p s m args meth c RX0 cX0_chance 9 (some .long) := C0
  obtain ⟨hx, hb, hml, hown, hts, hr, hlocks⟩ := id C0
  have hl : lv_has ls 9 [(0, .ref (ad 0)), (1, .int a1), (2, .int a2), (3, .int a3), (4, .int a4), (5, .int a5)] := hl
  have hS : va_S A s.heap s.heap [] := va_S.rf
  have hA : xx_A sk A s := hV.2
  have hW : xx_W D E A ad sk σ s s.heap := hV.1
  unfold xxw_chance at hw
  refine lv_iload_n hx hb dX0_chance_0 rfl (lv_at hl 2 rfl) ?_
  refine lv_i2l (v := (a2).toInt64) hx hb dX0_chance_1 rfl ?_
  refine lv_lconst (v := (1 : Int64)) hx hb dX0_chance_2 (by decide) ?_
  refine lv_ldc2 (own := RX0) (v := (20 : Int64)) hx hb hown (hts _ q981) dX0_chance_3 ?_
  refine xx_SI ⟨hx, hb, hml, hown, hts⟩ hA (xxt_in l _ _ _ _ hw) (va_cwS 3 hts (lw_S q139 q140 q103 q141) rfl rfl rfl cd_X0_in.2 ⟨Nat.le_of_ble_eq_true rfl, Nat.le_of_ble_eq_true rfl⟩) hW hS rfl hl.1 rfl (Nat.le_of_ble_eq_true rfl) dX0_chance_6 (fun r2 σ1 H locs hw hW hS => ?_)
  obtain ⟨hz_r2, hw⟩ := hw
  refine lv_if_eq (tgt := 44) hx hb dX0_chance_9 (by decide) (fun c18 => ?_) (fun c18 => ?_)
  · have hw := hw.1 c18
    refine lv_ldc2 (own := RX0) (v := (-4611686018427387904 : Int64)) hx hb hown (hts _ q1022) dX0_chance_44 ?_
    exact gg_lret (xx_mv D E A ad sk) C0 hW hS hw dX0_chance_47
  · have hw := hw.2 c18
    refine lv_aload_n hx hb dX0_chance_12 rfl (lv_at hl 0 rfl) ?_
    refine lv_iload_n hx hb dX0_chance_13 rfl (lv_at hl 3 rfl) ?_
    refine xx_VI ⟨hx, hb, hml, hown, hts⟩ hA (xxt_isOne l _ _ hw) (cwV 1 hts (lw_V q245 q247 qs2 q103 q248) rfl rfl rfl cd_X0_isOne ⟨Nat.le_of_ble_eq_true rfl, Nat.le_of_ble_eq_true rfl⟩) hW (xx_recv hW) hS rfl hl.1 rfl (Nat.le_of_ble_eq_true rfl) dX0_chance_14 (fun r4 σ3 H locs hw hW hS => ?_)
    obtain ⟨hz_r4, hw⟩ := hw
    refine lv_if_eq (tgt := 44) hx hb dX0_chance_17 (by decide) (fun c17 => ?_) (fun c17 => ?_)
    · have hw := hw.1 c17
      refine lv_ldc2 (own := RX0) (v := (-4611686018427387904 : Int64)) hx hb hown (hts _ q1022) dX0_chance_44 ?_
      exact gg_lret (xx_mv D E A ad sk) C0 hW hS hw dX0_chance_47
    · have hw := hw.2 c17
      refine lv_iload hx hb dX0_chance_20 (lv_at hl 4 rfl) ?_
      refine lv_i2l (v := (a4).toInt64) hx hb dX0_chance_22 rfl ?_
      refine lv_lconst (v := (0 : Int64)) hx hb dX0_chance_23 (by decide) ?_
      refine lv_ldc2 (own := RX0) (v := (24 : Int64)) hx hb hown (hts _ q224) dX0_chance_24 ?_
      refine xx_SI ⟨hx, hb, hml, hown, hts⟩ hA (xxt_in l _ _ _ _ hw) (va_cwS 3 hts (lw_S q139 q140 q103 q141) rfl rfl rfl cd_X0_in.2 ⟨Nat.le_of_ble_eq_true rfl, Nat.le_of_ble_eq_true rfl⟩) hW hS rfl hl.1 rfl (Nat.le_of_ble_eq_true rfl) dX0_chance_27 (fun r6 σ5 H locs hw hW hS => ?_)
      obtain ⟨hz_r6, hw⟩ := hw
      refine lv_if_eq (tgt := 44) hx hb dX0_chance_30 (by decide) (fun c16 => ?_) (fun c16 => ?_)
      · have hw := hw.1 c16
        refine lv_ldc2 (own := RX0) (v := (-4611686018427387904 : Int64)) hx hb hown (hts _ q1022) dX0_chance_44 ?_
        exact gg_lret (xx_mv D E A ad sk) C0 hW hS hw dX0_chance_47
      · have hw := hw.2 c16
        refine lv_iload hx hb dX0_chance_33 (lv_at hl 5 rfl) ?_
        refine lv_i2l (v := (a5).toInt64) hx hb dX0_chance_35 rfl ?_
        refine lv_lconst (v := (0 : Int64)) hx hb dX0_chance_36 (by decide) ?_
        refine lv_lconst (v := (1 : Int64)) hx hb dX0_chance_37 (by decide) ?_
        refine xx_SI ⟨hx, hb, hml, hown, hts⟩ hA (xxt_in l _ _ _ _ hw) (va_cwS 3 hts (lw_S q139 q140 q103 q141) rfl rfl rfl cd_X0_in.2 ⟨Nat.le_of_ble_eq_true rfl, Nat.le_of_ble_eq_true rfl⟩) hW hS rfl hl.1 rfl (Nat.le_of_ble_eq_true rfl) dX0_chance_38 (fun r8 σ7 H locs hw hW hS => ?_)
        obtain ⟨hz_r8, hw⟩ := hw
        refine lv_if_ne (tgt := 48) hx hb dX0_chance_41 (by decide) (fun c15 => ?_) (fun c15 => ?_)
        · have hw := hw.2 c15
          refine lv_lconst (v := (0 : Int64)) hx hb dX0_chance_48 (by decide) ?_
          refine lv_lstore (lv' := [(6, .long (0 : Int64)), (0, .ref (ad 0)), (1, .int a1), (2, .int a2), (3, .int a3), (4, .int a4), (5, .int a5)]) hx hb dX0_chance_49 hl (by decide) rfl (fun ls hl => ?_)
          refine lv_iconst (v := (0 : Int32)) hx hb dX0_chance_51 (by decide) ?_
          refine lv_istore (lv' := [(8, .int (0 : Int32)), (6, .long (0 : Int64)), (0, .ref (ad 0)), (1, .int a1), (2, .int a2), (3, .int a3), (4, .int a4), (5, .int a5)]) hx hb dX0_chance_52 hl (by decide) rfl (fun ls hl => ?_)
          obtain ⟨n9, hw⟩ := hw
          exact xxk_chance_54  C0 hA  n9 a1 a2 a3 a4 a5 (0 : Int64) (0 : Int32) σ7 _ _ _ hw hW hS (lv_sub hl [2, 3, 4, 5, 6, 7, 1, 0] rfl)
        · have hw := hw.1 c15
          refine lv_ldc2 (own := RX0) (v := (-4611686018427387904 : Int64)) hx hb hown (hts _ q1022) dX0_chance_44 ?_
          exact gg_lret (xx_mv D E A ad sk) C0 hW hS hw dX0_chance_47
theorem cd_X0_image : yX0_image.cls = RX0 ∧ yX0_image.cls ≠ "java/lang/invoke/MethodHandle" ∧ yX0_image.cls ≠ "java/lang/invoke/VarHandle" ∧ (parseMethodDescriptor yX0_image.desc).map (fun d => d.parameters.length) = some 0 := by decide +kernel
/-! GleanersForGaps.image()I -/
def xxw_image_34  (Q : Int32 → xx_S → Prop)  : Nat → Int32 → xx_S → Prop
  | 0, _, _ => False
  | n + 1, x1, σ =>
    ((((xx_g σ 0 1) ≤ x1) → vp_in (0 : Int32) 3 ∧ (∀ σ5 : xx_S, σ5 = xx_s σ 7 (0 : Int32).toNatClampNeg (xx_g σ 0 1) → vp_in (1 : Int32) 3 ∧ (∀ σ6 : xx_S, σ6 = xx_s σ5 7 (1 : Int32).toNatClampNeg (xx_g σ5 0 2) → vp_in (2 : Int32) 3 ∧ (∀ σ7 : xx_S, σ7 = xx_s σ6 7 (2 : Int32).toNatClampNeg (xx_g σ6 0 24) → (∀ σ8 : xx_S, σ8 = xx_s σ7 0 35 (1 : Int32) → Q (xx_g σ8 0 1) σ8))))) ∧ (¬ ((xx_g σ 0 1) ≤ x1) → vp_in (0 : Int32) 2 ∧ vp_in x1 5 ∧ ∃ y10 : Nat, xx_r σ 43 x1.toNatClampNeg = some y10 ∧ ∃ (k11 : Nat) (nk11 ak11 : Int32), xx_gl σ y10 k11 nk11 ak11 ∧ vp_in x1 5 ∧ (∀ σ12 : xx_S, σ12 = xx_s σ (28 + (0 : Int32).toNatClampNeg) x1.toNatClampNeg nk11 → vp_in (1 : Int32) 2 ∧ vp_in x1 5 ∧ ∃ y14 : Nat, xx_r σ12 43 x1.toNatClampNeg = some y14 ∧ ∃ (k15 : Nat) (nk15 ak15 : Int32), xx_gl σ12 y14 k15 nk15 ak15 ∧ vp_in x1 5 ∧ (∀ σ16 : xx_S, σ16 = xx_s σ12 (28 + (1 : Int32).toNatClampNeg) x1.toNatClampNeg ak15 → xxw_image_34 Q n (x1 + (1 : Int32)) σ16))))
def xxw_image   (σ : xx_S) (Q : Int32 → xx_S → Prop) : Prop :=
    vp_in (0 : Int32) 2 ∧ (∀ σ2 : xx_S, σ2 = xx_sr σ (26 + (0 : Int32).toNatClampNeg) (fun q => if q < 4 then xx_g σ 1 q else xx_g σ (26 + (0 : Int32).toNatClampNeg) q) → vp_in (1 : Int32) 2 ∧ (∀ σ4 : xx_S, σ4 = xx_sr σ2 (26 + (1 : Int32).toNatClampNeg) (fun q => if q < 4 then xx_g σ2 2 q else xx_g σ2 (26 + (1 : Int32).toNatClampNeg) q) → ∃ k9, xxw_image_34 Q k9 (0 : Int32) σ4))
abbrev xxr_image : Room := { frames := 1, cells := 0, slots := 0, locals := 64 }
set_option maxHeartbeats 4000000 in
set_option maxRecDepth 100000 in
theorem xxk_image_34 {p : Program} {l : Launch} {e : Env} {s : State} {m : MethodId} {args : Array Value} {below : List Frame} {meth : Method} {c : Code} {D : va_G} {E : Nat → ClassId} {A : Nat → Prop} {ad sk : Nat → Nat} {Q : Int32 → xx_S → Prop}   (C0 : gg_C p s m args meth c RX0 cX0_image 2 (some .int)) (hA : xx_A sk A s) :
    ∀ n : Nat, ∀ (x1 : Int32) (σ : xx_S) (H : Heap) (locs : List Loc) (ls : Array Slot), xxw_image_34 Q n x1 σ → xx_W D E A ad sk σ s H → va_S A s.heap H locs → lv_has ls 2 [(0, .ref (ad 0)), (1, .int x1)] → W p l e xxr_image s m args below meth c H locs 0 0 (MQ below (va_Qi Q (fun u t => xx_W D E A ad sk u t t.heap) A) args s 0 0 A) (F0 m 34 ls []) := by
  obtain ⟨hx, hb, hml, hown, hts, hr, hlocks⟩ := id C0
  intro n
  induction n with
  | zero =>
    intro x1 σ H locs ls hw hW hS hl
    exact absurd hw (by unfold xxw_image_34; exact id)
  | succ n ih =>
    intro x1 σ H locs ls hw hW hS hl
    unfold xxw_image_34 at hw
    refine lv_iload_n hx hb dX0_image_34 rfl (lv_at hl 1 rfl) ?_
    refine lv_aload_n hx hb dX0_image_35 rfl (lv_at hl 0 rfl) ?_
    refine xx_geti hx hb hts hown hW 1 (by decide) q745 dX0_image_36 ?_
    refine lv_icmp_ge (tgt := 82) hx hb dX0_image_39 (by decide) (fun c17 => ?_) (fun c17 => ?_)
    · have hw := hw.1 c17
      refine lv_aload_n hx hb dX0_image_82 rfl (lv_at hl 0 rfl) ?_
      refine xx_getr hx hb hts hown hW 38 7 (by decide) q788 dX0_image_83 ?_
      refine lv_iconst (v := (0 : Int32)) hx hb dX0_image_86 (by decide) ?_
      refine lv_aload_n hx hb dX0_image_87 rfl (lv_at hl 0 rfl) ?_
      refine xx_geti hx hb hts hown hW 1 (by decide) q745 dX0_image_88 ?_
      obtain ⟨hin, hw⟩ := hw
      refine xx_ast hx hb hW hS 7 3 (by decide) rfl hin dX0_image_91 (fun H locs hW hS => ?_)
      obtain ⟨σ5, eσ5⟩ : ∃ z, z = xx_s σ 7 (0 : Int32).toNatClampNeg (xx_g σ 0 1) := ⟨_, rfl⟩
      rw [← eσ5] at hW
      have hw := hw σ5 eσ5
      refine lv_aload_n hx hb dX0_image_92 rfl (lv_at hl 0 rfl) ?_
      refine xx_getr hx hb hts hown hW 38 7 (by decide) q788 dX0_image_93 ?_
      refine lv_iconst (v := (1 : Int32)) hx hb dX0_image_96 (by decide) ?_
      refine lv_aload_n hx hb dX0_image_97 rfl (lv_at hl 0 rfl) ?_
      refine xx_geti hx hb hts hown hW 2 (by decide) q747 dX0_image_98 ?_
      obtain ⟨hin, hw⟩ := hw
      refine xx_ast hx hb hW hS 7 3 (by decide) rfl hin dX0_image_101 (fun H locs hW hS => ?_)
      obtain ⟨σ6, eσ6⟩ : ∃ z, z = xx_s σ5 7 (1 : Int32).toNatClampNeg (xx_g σ5 0 2) := ⟨_, rfl⟩
      rw [← eσ6] at hW
      have hw := hw σ6 eσ6
      refine lv_aload_n hx hb dX0_image_102 rfl (lv_at hl 0 rfl) ?_
      refine xx_getr hx hb hts hown hW 38 7 (by decide) q788 dX0_image_103 ?_
      refine lv_iconst (v := (2 : Int32)) hx hb dX0_image_106 (by decide) ?_
      refine lv_aload_n hx hb dX0_image_107 rfl (lv_at hl 0 rfl) ?_
      refine xx_geti hx hb hts hown hW 24 (by decide) q774 dX0_image_108 ?_
      obtain ⟨hin, hw⟩ := hw
      refine xx_ast hx hb hW hS 7 3 (by decide) rfl hin dX0_image_111 (fun H locs hW hS => ?_)
      obtain ⟨σ7, eσ7⟩ : ∃ z, z = xx_s σ6 7 (2 : Int32).toNatClampNeg (xx_g σ6 0 24) := ⟨_, rfl⟩
      rw [← eσ7] at hW
      have hw := hw σ7 eσ7
      refine lv_aload_n hx hb dX0_image_112 rfl (lv_at hl 0 rfl) ?_
      refine lv_iconst (v := (1 : Int32)) hx hb dX0_image_113 (by decide) ?_
      refine xx_puti hx hb hts hown hW hS 35 (by decide) q785 rfl rfl rfl dX0_image_114 (fun H locs hW hS => ?_)
      obtain ⟨σ8, eσ8⟩ : ∃ z, z = xx_s σ7 0 35 (1 : Int32) := ⟨_, rfl⟩
      rw [← eσ8] at hW
      have hw := hw σ8 eσ8
      refine lv_aload_n hx hb dX0_image_117 rfl (lv_at hl 0 rfl) ?_
      refine xx_geti hx hb hts hown hW 1 (by decide) q745 dX0_image_118 ?_
      exact gg_iret (xx_mv D E A ad sk) C0 hW hS hw dX0_image_121
    · have hw := hw.2 c17
      refine lv_aload_n hx hb dX0_image_42 rfl (lv_at hl 0 rfl) ?_
      refine xx_getr hx hb hts hown hW 37 35 (by decide) q787 dX0_image_43 ?_
      refine lv_iconst (v := (0 : Int32)) hx hb dX0_image_46 (by decide) ?_
      obtain ⟨hin9, hw⟩ := hw
      refine xx_ald2 hx hb hW 35 28 2 (by decide) rfl rfl hin9 dX0_image_47 ?_
      refine lv_iload_n hx hb dX0_image_48 rfl (lv_at hl 1 rfl) ?_
      refine lv_aload_n hx hb dX0_image_49 rfl (lv_at hl 0 rfl) ?_
      refine xx_getr hx hb hts hown hW 0 43 (by decide) q744 dX0_image_50 ?_
      refine lv_iload_n hx hb dX0_image_53 rfl (lv_at hl 1 rfl) ?_
      obtain ⟨hin, y10, hy, hw⟩ := hw
      refine xx_aldF hx hb hW hin hy dX0_image_54 ?_
      obtain ⟨k11, nk11, ak11, hgl, hw⟩ := hw
      refine xx_gln hx hb hts hown hW hgl q162 (fun _ h9 => h9) dX0_image_55 ?_
      obtain ⟨hin, hw⟩ := hw
      refine xx_ast hx hb hW hS (28 + (0 : Int32).toNatClampNeg) 5 (xx_b28 hin9) (xx_l28 hin9) hin dX0_image_58 (fun H locs hW hS => ?_)
      obtain ⟨σ12, eσ12⟩ : ∃ z, z = xx_s σ (28 + (0 : Int32).toNatClampNeg) x1.toNatClampNeg nk11 := ⟨_, rfl⟩
      rw [← eσ12] at hW
      have hw := hw σ12 eσ12
      refine lv_aload_n hx hb dX0_image_59 rfl (lv_at hl 0 rfl) ?_
      refine xx_getr hx hb hts hown hW 37 35 (by decide) q787 dX0_image_60 ?_
      refine lv_iconst (v := (1 : Int32)) hx hb dX0_image_63 (by decide) ?_
      obtain ⟨hin13, hw⟩ := hw
      refine xx_ald2 hx hb hW 35 28 2 (by decide) rfl rfl hin13 dX0_image_64 ?_
      refine lv_iload_n hx hb dX0_image_65 rfl (lv_at hl 1 rfl) ?_
      refine lv_aload_n hx hb dX0_image_66 rfl (lv_at hl 0 rfl) ?_
      refine xx_getr hx hb hts hown hW 0 43 (by decide) q744 dX0_image_67 ?_
      refine lv_iload_n hx hb dX0_image_70 rfl (lv_at hl 1 rfl) ?_
      obtain ⟨hin, y14, hy, hw⟩ := hw
      refine xx_aldF hx hb hW hin hy dX0_image_71 ?_
      obtain ⟨k15, nk15, ak15, hgl, hw⟩ := hw
      refine xx_gla hx hb hts hown hW hgl q168 (fun _ h9 => h9) dX0_image_72 ?_
      obtain ⟨hin, hw⟩ := hw
      refine xx_ast hx hb hW hS (28 + (1 : Int32).toNatClampNeg) 5 (xx_b28 hin13) (xx_l28 hin13) hin dX0_image_75 (fun H locs hW hS => ?_)
      obtain ⟨σ16, eσ16⟩ : ∃ z, z = xx_s σ12 (28 + (1 : Int32).toNatClampNeg) x1.toNatClampNeg ak15 := ⟨_, rfl⟩
      rw [← eσ16] at hW
      have hw := hw σ16 eσ16
      refine lv_iinc (v := (x1 + (1 : Int32))) (lv' := [(1, .int (x1 + (1 : Int32))), (0, .ref (ad 0))]) hx hb dX0_image_76 hl (k := 1) rfl rfl (by decide) rfl (fun ls hl => ?_)
      refine lv_goto (tgt := 34) hx hb dX0_image_79 (by decide) ?_
      exact ih (x1 + (1 : Int32)) σ16 _ _ _ hw hW hS (lv_sub hl [1, 0] rfl)
set_option maxHeartbeats 4000000 in
set_option maxRecDepth 100000 in
theorem xxt_image (l : Launch) {D : va_G} {E : Nat → ClassId} {A : Nat → Prop} {ad sk : Nat → Nat}   (σ : xx_S) {Q : Int32 → xx_S → Prop} (hw : xxw_image σ Q) :
    Met l yX0_image (ws_ yX0_image cX0_image 2 (some .int)) xxr_image (va_Pc [.ref (ad 0)] (fun U => xx_V D E A ad sk σ U U.heap)) (va_Qi Q (fun u t => xx_W D E A ad sk u t t.heap) A) 0 0 A := by
  refine gg_entry (W0 := fun s H => xx_V D E A ad sk σ s H) (by decide) (Nat.le_of_ble_eq_true rfl) ?_
  intro p e s m args below meth c C0 hV ls hl
  have C0 : gg_C p s m args meth c RX0 cX0_image 2 (some .int) := C0
  obtain ⟨hx, hb, hml, hown, hts, hr, hlocks⟩ := id C0
  have hl : lv_has ls 2 [(0, .ref (ad 0))] := hl
  have hS : va_S A s.heap s.heap [] := va_S.rf
  have hA : xx_A sk A s := hV.2
  have hW : xx_W D E A ad sk σ s s.heap := hV.1
  unfold xxw_image at hw
  refine lv_aload_n hx hb dX0_image_0 rfl (lv_at hl 0 rfl) ?_
  refine xx_getr hx hb hts hown hW 3 1 (by decide) q748 dX0_image_1 ?_
  refine lv_iconst (v := (0 : Int32)) hx hb dX0_image_4 (by decide) ?_
  refine lv_aload_n hx hb dX0_image_5 rfl (lv_at hl 0 rfl) ?_
  refine xx_getr hx hb hts hown hW 36 34 (by decide) q786 dX0_image_6 ?_
  refine lv_iconst (v := (0 : Int32)) hx hb dX0_image_9 (by decide) ?_
  obtain ⟨hin1, hw⟩ := hw
  refine xx_ald2 hx hb hW 34 26 2 (by decide) rfl rfl hin1 dX0_image_10 ?_
  refine lv_iconst (v := (0 : Int32)) hx hb dX0_image_11 (by decide) ?_
  refine lv_iconst (v := (4 : Int32)) hx hb dX0_image_12 (by decide) ?_
  refine xx_copy4 hx hb (hml.trans hl.1.symm) hown (hts _ q970) (hts _ q972) (hts _ q971) (hts _ q128) hW hS 1 (26 + (0 : Int32).toNatClampNeg) (by decide) rfl (xx_b26 hin1) (xx_l26 hin1) (Nat.le_of_ble_eq_true rfl) (Nat.le_of_ble_eq_true rfl) dX0_image_13 (fun H locs hW hS => ?_)
  obtain ⟨σ2, eσ2⟩ : ∃ z, z = xx_sr σ (26 + (0 : Int32).toNatClampNeg) (fun q => if q < 4 then xx_g σ 1 q else xx_g σ (26 + (0 : Int32).toNatClampNeg) q) := ⟨_, rfl⟩
  rw [← eσ2] at hW
  have hw := hw σ2 eσ2
  refine lv_aload_n hx hb dX0_image_16 rfl (lv_at hl 0 rfl) ?_
  refine xx_getr hx hb hts hown hW 4 2 (by decide) q749 dX0_image_17 ?_
  refine lv_iconst (v := (0 : Int32)) hx hb dX0_image_20 (by decide) ?_
  refine lv_aload_n hx hb dX0_image_21 rfl (lv_at hl 0 rfl) ?_
  refine xx_getr hx hb hts hown hW 36 34 (by decide) q786 dX0_image_22 ?_
  refine lv_iconst (v := (1 : Int32)) hx hb dX0_image_25 (by decide) ?_
  obtain ⟨hin3, hw⟩ := hw
  refine xx_ald2 hx hb hW 34 26 2 (by decide) rfl rfl hin3 dX0_image_26 ?_
  refine lv_iconst (v := (0 : Int32)) hx hb dX0_image_27 (by decide) ?_
  refine lv_iconst (v := (4 : Int32)) hx hb dX0_image_28 (by decide) ?_
  refine xx_copy4 hx hb (hml.trans hl.1.symm) hown (hts _ q970) (hts _ q972) (hts _ q971) (hts _ q128) hW hS 2 (26 + (1 : Int32).toNatClampNeg) (by decide) rfl (xx_b26 hin3) (xx_l26 hin3) (Nat.le_of_ble_eq_true rfl) (Nat.le_of_ble_eq_true rfl) dX0_image_29 (fun H locs hW hS => ?_)
  obtain ⟨σ4, eσ4⟩ : ∃ z, z = xx_sr σ2 (26 + (1 : Int32).toNatClampNeg) (fun q => if q < 4 then xx_g σ2 2 q else xx_g σ2 (26 + (1 : Int32).toNatClampNeg) q) := ⟨_, rfl⟩
  rw [← eσ4] at hW
  have hw := hw σ4 eσ4
  refine lv_iconst (v := (0 : Int32)) hx hb dX0_image_32 (by decide) ?_
  refine lv_istore_n (lv' := [(1, .int (0 : Int32)), (0, .ref (ad 0))]) hx hb dX0_image_33 rfl hl (by decide) rfl (fun ls hl => ?_)
  obtain ⟨n9, hw⟩ := hw
  exact xxk_image_34  C0 hA  n9 (0 : Int32) σ4 _ _ _ hw hW hS (lv_sub hl [1, 0] rfl)
theorem cd_X0_back : yX0_back.cls = RX0 ∧ yX0_back.cls ≠ "java/lang/invoke/MethodHandle" ∧ yX0_back.cls ≠ "java/lang/invoke/VarHandle" ∧ (parseMethodDescriptor yX0_back.desc).map (fun d => d.parameters.length) = some 0 := by decide +kernel
/-! GleanersForGaps.back()I -/
def xxw_back_74  (Q : Int32 → xx_S → Prop)  : Nat → Int32 → xx_S → Prop
  | 0, _, _ => False
  | n + 1, x1, σ =>
    ((((xx_g σ 0 1) ≤ x1) → Q (xx_g σ 0 1) σ) ∧ (¬ ((xx_g σ 0 1) ≤ x1) → vp_in x1 5 ∧ ∃ y8 : Nat, xx_r σ 43 x1.toNatClampNeg = some y8 ∧ vp_in (0 : Int32) 2 ∧ vp_in x1 5 ∧ ∃ (k10 : Nat) (nk10 ak10 : Int32), xx_gl σ y8 k10 nk10 ak10 ∧ (∀ σ11 : xx_S, σ11 = xx_ps σ y8 (.inr (k10, [.int (xx_g σ (28 + (0 : Int32).toNatClampNeg) x1.toNatClampNeg), .int ak10])) → vp_in x1 5 ∧ ∃ y12 : Nat, xx_r σ11 43 x1.toNatClampNeg = some y12 ∧ vp_in (1 : Int32) 2 ∧ vp_in x1 5 ∧ ∃ (k14 : Nat) (nk14 ak14 : Int32), xx_gl σ11 y12 k14 nk14 ak14 ∧ (∀ σ15 : xx_S, σ15 = xx_ps σ11 y12 (.inr (k14, [.int nk14, .int (xx_g σ11 (28 + (1 : Int32).toNatClampNeg) x1.toNatClampNeg)])) → xxw_back_74 Q n (x1 + (1 : Int32)) σ15))))
def xxw_back   (σ : xx_S) (Q : Int32 → xx_S → Prop) : Prop :=
    ((((xx_g σ 0 35) = 0) → Q (-3 : Int32) σ) ∧ (¬ ((xx_g σ 0 35) = 0) → vp_in (0 : Int32) 2 ∧ (∀ σ2 : xx_S, σ2 = xx_sr σ 1 (fun q => if q < 4 then xx_g σ (26 + (0 : Int32).toNatClampNeg) q else xx_g σ 1 q) → vp_in (1 : Int32) 2 ∧ (∀ σ4 : xx_S, σ4 = xx_sr σ2 2 (fun q => if q < 4 then xx_g σ2 (26 + (1 : Int32).toNatClampNeg) q else xx_g σ2 2 q) → vp_in (0 : Int32) 3 ∧ (∀ σ5 : xx_S, σ5 = xx_s σ4 0 1 (xx_g σ4 7 (0 : Int32).toNatClampNeg) → vp_in (1 : Int32) 3 ∧ (∀ σ6 : xx_S, σ6 = xx_s σ5 0 2 (xx_g σ5 7 (1 : Int32).toNatClampNeg) → vp_in (2 : Int32) 3 ∧ (∀ σ7 : xx_S, σ7 = xx_s σ6 0 24 (xx_g σ6 7 (2 : Int32).toNatClampNeg) → ∃ k9, xxw_back_74 Q k9 (0 : Int32) σ7)))))))
abbrev xxr_back : Room := { frames := 1, cells := 0, slots := 0, locals := 64 }
set_option maxHeartbeats 4000000 in
set_option maxRecDepth 100000 in
theorem xxk_back_74 {p : Program} {l : Launch} {e : Env} {s : State} {m : MethodId} {args : Array Value} {below : List Frame} {meth : Method} {c : Code} {D : va_G} {E : Nat → ClassId} {A : Nat → Prop} {ad sk : Nat → Nat} {Q : Int32 → xx_S → Prop}   (C0 : gg_C p s m args meth c RX0 cX0_back 2 (some .int)) (hA : xx_A sk A s) :
    ∀ n : Nat, ∀ (x1 : Int32) (σ : xx_S) (H : Heap) (locs : List Loc) (ls : Array Slot), xxw_back_74 Q n x1 σ → xx_W D E A ad sk σ s H → va_S A s.heap H locs → lv_has ls 2 [(0, .ref (ad 0)), (1, .int x1)] → W p l e xxr_back s m args below meth c H locs 0 0 (MQ below (va_Qi Q (fun u t => xx_W D E A ad sk u t t.heap) A) args s 0 0 A) (F0 m 74 ls []) := by
  obtain ⟨hx, hb, hml, hown, hts, hr, hlocks⟩ := id C0
  intro n
  induction n with
  | zero =>
    intro x1 σ H locs ls hw hW hS hl
    exact absurd hw (by unfold xxw_back_74; exact id)
  | succ n ih =>
    intro x1 σ H locs ls hw hW hS hl
    unfold xxw_back_74 at hw
    refine lv_iload_n hx hb dX0_back_74 rfl (lv_at hl 1 rfl) ?_
    refine lv_aload_n hx hb dX0_back_75 rfl (lv_at hl 0 rfl) ?_
    refine xx_geti hx hb hts hown hW 1 (by decide) q745 dX0_back_76 ?_
    refine lv_icmp_ge (tgt := 122) hx hb dX0_back_79 (by decide) (fun c16 => ?_) (fun c16 => ?_)
    · have hw := hw.1 c16
      refine lv_aload_n hx hb dX0_back_122 rfl (lv_at hl 0 rfl) ?_
      refine xx_geti hx hb hts hown hW 1 (by decide) q745 dX0_back_123 ?_
      exact gg_iret (xx_mv D E A ad sk) C0 hW hS hw dX0_back_126
    · have hw := hw.2 c16
      refine lv_aload_n hx hb dX0_back_82 rfl (lv_at hl 0 rfl) ?_
      refine xx_getr hx hb hts hown hW 0 43 (by decide) q744 dX0_back_83 ?_
      refine lv_iload_n hx hb dX0_back_86 rfl (lv_at hl 1 rfl) ?_
      obtain ⟨hin, y8, hy, hw⟩ := hw
      refine xx_aldF hx hb hW hin hy dX0_back_87 ?_
      refine lv_aload_n hx hb dX0_back_88 rfl (lv_at hl 0 rfl) ?_
      refine xx_getr hx hb hts hown hW 37 35 (by decide) q787 dX0_back_89 ?_
      refine lv_iconst (v := (0 : Int32)) hx hb dX0_back_92 (by decide) ?_
      obtain ⟨hin9, hw⟩ := hw
      refine xx_ald2 hx hb hW 35 28 2 (by decide) rfl rfl hin9 dX0_back_93 ?_
      refine lv_iload_n hx hb dX0_back_94 rfl (lv_at hl 1 rfl) ?_
      obtain ⟨hin, hw⟩ := hw
      refine xx_ald hx hb hW (28 + (0 : Int32).toNatClampNeg) 5 (xx_b28 hin9) (xx_l28 hin9) hin dX0_back_95 ?_
      obtain ⟨k10, nk10, ak10, hgl, hw⟩ := hw
      refine xx_pgln hx hb hts hown hW hS hgl q162 (fun _ h9 => h9) dX0_back_96 (fun H locs hW hS => ?_)
      obtain ⟨σ11, eσ11⟩ : ∃ z, z = xx_ps σ y8 (.inr (k10, [.int (xx_g σ (28 + (0 : Int32).toNatClampNeg) x1.toNatClampNeg), .int ak10])) := ⟨_, rfl⟩
      rw [← eσ11] at hW
      have hw := hw σ11 eσ11
      refine lv_aload_n hx hb dX0_back_99 rfl (lv_at hl 0 rfl) ?_
      refine xx_getr hx hb hts hown hW 0 43 (by decide) q744 dX0_back_100 ?_
      refine lv_iload_n hx hb dX0_back_103 rfl (lv_at hl 1 rfl) ?_
      obtain ⟨hin, y12, hy, hw⟩ := hw
      refine xx_aldF hx hb hW hin hy dX0_back_104 ?_
      refine lv_aload_n hx hb dX0_back_105 rfl (lv_at hl 0 rfl) ?_
      refine xx_getr hx hb hts hown hW 37 35 (by decide) q787 dX0_back_106 ?_
      refine lv_iconst (v := (1 : Int32)) hx hb dX0_back_109 (by decide) ?_
      obtain ⟨hin13, hw⟩ := hw
      refine xx_ald2 hx hb hW 35 28 2 (by decide) rfl rfl hin13 dX0_back_110 ?_
      refine lv_iload_n hx hb dX0_back_111 rfl (lv_at hl 1 rfl) ?_
      obtain ⟨hin, hw⟩ := hw
      refine xx_ald hx hb hW (28 + (1 : Int32).toNatClampNeg) 5 (xx_b28 hin13) (xx_l28 hin13) hin dX0_back_112 ?_
      obtain ⟨k14, nk14, ak14, hgl, hw⟩ := hw
      refine xx_pgla hx hb hts hown hW hS hgl q168 (fun _ h9 => h9) dX0_back_113 (fun H locs hW hS => ?_)
      obtain ⟨σ15, eσ15⟩ : ∃ z, z = xx_ps σ11 y12 (.inr (k14, [.int nk14, .int (xx_g σ11 (28 + (1 : Int32).toNatClampNeg) x1.toNatClampNeg)])) := ⟨_, rfl⟩
      rw [← eσ15] at hW
      have hw := hw σ15 eσ15
      refine lv_iinc (v := (x1 + (1 : Int32))) (lv' := [(1, .int (x1 + (1 : Int32))), (0, .ref (ad 0))]) hx hb dX0_back_116 hl (k := 1) rfl rfl (by decide) rfl (fun ls hl => ?_)
      refine lv_goto (tgt := 74) hx hb dX0_back_119 (by decide) ?_
      exact ih (x1 + (1 : Int32)) σ15 _ _ _ hw hW hS (lv_sub hl [1, 0] rfl)
set_option maxHeartbeats 4000000 in
set_option maxRecDepth 100000 in
theorem xxt_back (l : Launch) {D : va_G} {E : Nat → ClassId} {A : Nat → Prop} {ad sk : Nat → Nat}   (σ : xx_S) {Q : Int32 → xx_S → Prop} (hw : xxw_back σ Q) :
    Met l yX0_back (ws_ yX0_back cX0_back 2 (some .int)) xxr_back (va_Pc [.ref (ad 0)] (fun U => xx_V D E A ad sk σ U U.heap)) (va_Qi Q (fun u t => xx_W D E A ad sk u t t.heap) A) 0 0 A := by
  refine gg_entry (W0 := fun s H => xx_V D E A ad sk σ s H) (by decide) (Nat.le_of_ble_eq_true rfl) ?_
  intro p e s m args below meth c C0 hV ls hl
  have C0 : gg_C p s m args meth c RX0 cX0_back 2 (some .int) := C0
  obtain ⟨hx, hb, hml, hown, hts, hr, hlocks⟩ := id C0
  have hl : lv_has ls 2 [(0, .ref (ad 0))] := hl
  have hS : va_S A s.heap s.heap [] := va_S.rf
  have hA : xx_A sk A s := hV.2
  have hW : xx_W D E A ad sk σ s s.heap := hV.1
  unfold xxw_back at hw
  refine lv_aload_n hx hb dX0_back_0 rfl (lv_at hl 0 rfl) ?_
  refine xx_geti hx hb hts hown hW 35 (by decide) q785 dX0_back_1 ?_
  refine lv_if_ne (tgt := 10) hx hb dX0_back_4 (by decide) (fun c17 => ?_) (fun c17 => ?_)
  · have hw := hw.2 c17
    refine lv_aload_n hx hb dX0_back_10 rfl (lv_at hl 0 rfl) ?_
    refine xx_getr hx hb hts hown hW 36 34 (by decide) q786 dX0_back_11 ?_
    refine lv_iconst (v := (0 : Int32)) hx hb dX0_back_14 (by decide) ?_
    obtain ⟨hin1, hw⟩ := hw
    refine xx_ald2 hx hb hW 34 26 2 (by decide) rfl rfl hin1 dX0_back_15 ?_
    refine lv_iconst (v := (0 : Int32)) hx hb dX0_back_16 (by decide) ?_
    refine lv_aload_n hx hb dX0_back_17 rfl (lv_at hl 0 rfl) ?_
    refine xx_getr hx hb hts hown hW 3 1 (by decide) q748 dX0_back_18 ?_
    refine lv_iconst (v := (0 : Int32)) hx hb dX0_back_21 (by decide) ?_
    refine lv_iconst (v := (4 : Int32)) hx hb dX0_back_22 (by decide) ?_
    refine xx_copy4 hx hb (hml.trans hl.1.symm) hown (hts _ q970) (hts _ q972) (hts _ q971) (hts _ q128) hW hS (26 + (0 : Int32).toNatClampNeg) 1 (xx_b26 hin1) (xx_l26 hin1) (by decide) rfl (Nat.le_of_ble_eq_true rfl) (Nat.le_of_ble_eq_true rfl) dX0_back_23 (fun H locs hW hS => ?_)
    obtain ⟨σ2, eσ2⟩ : ∃ z, z = xx_sr σ 1 (fun q => if q < 4 then xx_g σ (26 + (0 : Int32).toNatClampNeg) q else xx_g σ 1 q) := ⟨_, rfl⟩
    rw [← eσ2] at hW
    have hw := hw σ2 eσ2
    refine lv_aload_n hx hb dX0_back_26 rfl (lv_at hl 0 rfl) ?_
    refine xx_getr hx hb hts hown hW 36 34 (by decide) q786 dX0_back_27 ?_
    refine lv_iconst (v := (1 : Int32)) hx hb dX0_back_30 (by decide) ?_
    obtain ⟨hin3, hw⟩ := hw
    refine xx_ald2 hx hb hW 34 26 2 (by decide) rfl rfl hin3 dX0_back_31 ?_
    refine lv_iconst (v := (0 : Int32)) hx hb dX0_back_32 (by decide) ?_
    refine lv_aload_n hx hb dX0_back_33 rfl (lv_at hl 0 rfl) ?_
    refine xx_getr hx hb hts hown hW 4 2 (by decide) q749 dX0_back_34 ?_
    refine lv_iconst (v := (0 : Int32)) hx hb dX0_back_37 (by decide) ?_
    refine lv_iconst (v := (4 : Int32)) hx hb dX0_back_38 (by decide) ?_
    refine xx_copy4 hx hb (hml.trans hl.1.symm) hown (hts _ q970) (hts _ q972) (hts _ q971) (hts _ q128) hW hS (26 + (1 : Int32).toNatClampNeg) 2 (xx_b26 hin3) (xx_l26 hin3) (by decide) rfl (Nat.le_of_ble_eq_true rfl) (Nat.le_of_ble_eq_true rfl) dX0_back_39 (fun H locs hW hS => ?_)
    obtain ⟨σ4, eσ4⟩ : ∃ z, z = xx_sr σ2 2 (fun q => if q < 4 then xx_g σ2 (26 + (1 : Int32).toNatClampNeg) q else xx_g σ2 2 q) := ⟨_, rfl⟩
    rw [← eσ4] at hW
    have hw := hw σ4 eσ4
    refine lv_aload_n hx hb dX0_back_42 rfl (lv_at hl 0 rfl) ?_
    refine lv_aload_n hx hb dX0_back_43 rfl (lv_at hl 0 rfl) ?_
    refine xx_getr hx hb hts hown hW 38 7 (by decide) q788 dX0_back_44 ?_
    refine lv_iconst (v := (0 : Int32)) hx hb dX0_back_47 (by decide) ?_
    obtain ⟨hin, hw⟩ := hw
    refine xx_ald hx hb hW 7 3 (by decide) rfl hin dX0_back_48 ?_
    refine xx_puti hx hb hts hown hW hS 1 (by decide) q745 rfl rfl rfl dX0_back_49 (fun H locs hW hS => ?_)
    obtain ⟨σ5, eσ5⟩ : ∃ z, z = xx_s σ4 0 1 (xx_g σ4 7 (0 : Int32).toNatClampNeg) := ⟨_, rfl⟩
    rw [← eσ5] at hW
    have hw := hw σ5 eσ5
    refine lv_aload_n hx hb dX0_back_52 rfl (lv_at hl 0 rfl) ?_
    refine lv_aload_n hx hb dX0_back_53 rfl (lv_at hl 0 rfl) ?_
    refine xx_getr hx hb hts hown hW 38 7 (by decide) q788 dX0_back_54 ?_
    refine lv_iconst (v := (1 : Int32)) hx hb dX0_back_57 (by decide) ?_
    obtain ⟨hin, hw⟩ := hw
    refine xx_ald hx hb hW 7 3 (by decide) rfl hin dX0_back_58 ?_
    refine xx_puti hx hb hts hown hW hS 2 (by decide) q747 rfl rfl rfl dX0_back_59 (fun H locs hW hS => ?_)
    obtain ⟨σ6, eσ6⟩ : ∃ z, z = xx_s σ5 0 2 (xx_g σ5 7 (1 : Int32).toNatClampNeg) := ⟨_, rfl⟩
    rw [← eσ6] at hW
    have hw := hw σ6 eσ6
    refine lv_aload_n hx hb dX0_back_62 rfl (lv_at hl 0 rfl) ?_
    refine lv_aload_n hx hb dX0_back_63 rfl (lv_at hl 0 rfl) ?_
    refine xx_getr hx hb hts hown hW 38 7 (by decide) q788 dX0_back_64 ?_
    refine lv_iconst (v := (2 : Int32)) hx hb dX0_back_67 (by decide) ?_
    obtain ⟨hin, hw⟩ := hw
    refine xx_ald hx hb hW 7 3 (by decide) rfl hin dX0_back_68 ?_
    refine xx_puti hx hb hts hown hW hS 24 (by decide) q774 rfl rfl rfl dX0_back_69 (fun H locs hW hS => ?_)
    obtain ⟨σ7, eσ7⟩ : ∃ z, z = xx_s σ6 0 24 (xx_g σ6 7 (2 : Int32).toNatClampNeg) := ⟨_, rfl⟩
    rw [← eσ7] at hW
    have hw := hw σ7 eσ7
    refine lv_iconst (v := (0 : Int32)) hx hb dX0_back_72 (by decide) ?_
    refine lv_istore_n (lv' := [(1, .int (0 : Int32)), (0, .ref (ad 0))]) hx hb dX0_back_73 rfl hl (by decide) rfl (fun ls hl => ?_)
    obtain ⟨n9, hw⟩ := hw
    exact xxk_back_74  C0 hA  n9 (0 : Int32) σ7 _ _ _ hw hW hS (lv_sub hl [1, 0] rfl)
  · have hw := hw.1 c17
    refine lv_bipush (v := (-3 : Int32)) hx hb dX0_back_7 (by decide) ?_
    exact gg_iret (xx_mv D E A ad sk) C0 hW hS hw dX0_back_9
theorem cd_X0_count : yX0_count.cls = RX0 ∧ yX0_count.cls ≠ "java/lang/invoke/MethodHandle" ∧ yX0_count.cls ≠ "java/lang/invoke/VarHandle" ∧ (parseMethodDescriptor yX0_count.desc).map (fun d => d.parameters.length) = some 1 := by decide +kernel
/-! GleanersForGaps.count(I)I -/
def xxw_count  (a1 : Int32) (σ : xx_S) (Q : Int32 → xx_S → Prop) : Prop :=
    ((a1 = (0 : Int32) → Q (xx_g σ 0 1) σ) ∧ (a1 = (1 : Int32) → (xxw_gapsAll σ (fun r3 σ2 => Q r3 σ2))) ∧ (a1 = (2 : Int32) → Q (xx_g σ 0 2) σ) ∧ (a1 = (3 : Int32) → Q (xx_g σ 0 13) σ) ∧ (a1 = (4 : Int32) → Q (xx_g σ 0 17) σ) ∧ (a1 = (5 : Int32) → Q (xx_g σ 0 24) σ) ∧ (¬ a1 = (0 : Int32) ∧ ¬ a1 = (1 : Int32) ∧ ¬ a1 = (2 : Int32) ∧ ¬ a1 = (3 : Int32) ∧ ¬ a1 = (4 : Int32) ∧ ¬ a1 = (5 : Int32) → Q (-2 : Int32) σ))
abbrev xxr_count : Room := { frames := 3, cells := 0, slots := 0, locals := 63 }
set_option maxHeartbeats 4000000 in
set_option maxRecDepth 100000 in
theorem xxt_count (l : Launch) {D : va_G} {E : Nat → ClassId} {A : Nat → Prop} {ad sk : Nat → Nat}  (a1 : Int32) (σ : xx_S) {Q : Int32 → xx_S → Prop} (hw : xxw_count a1 σ Q) :
    Met l yX0_count (ws_ yX0_count cX0_count 2 (some .int)) xxr_count (va_Pc [.ref (ad 0), .int a1] (fun U => xx_V D E A ad sk σ U U.heap)) (va_Qi Q (fun u t => xx_W D E A ad sk u t t.heap) A) 0 0 A := by
  refine gg_entry (W0 := fun s H => xx_V D E A ad sk σ s H) (by decide) (Nat.le_of_ble_eq_true rfl) ?_
  intro p e s m args below meth c C0 hV ls hl
  have C0 : gg_C p s m args meth c RX0 cX0_count 2 (some .int) := C0
  obtain ⟨hx, hb, hml, hown, hts, hr, hlocks⟩ := id C0
  have hl : lv_has ls 2 [(0, .ref (ad 0)), (1, .int a1)] := hl
  have hS : va_S A s.heap s.heap [] := va_S.rf
  have hA : xx_A sk A s := hV.2
  have hW : xx_W D E A ad sk σ s s.heap := hV.1
  unfold xxw_count at hw
  refine lv_iload_n hx hb dX0_count_0 rfl (lv_at hl 1 rfl) ?_
  by_cases e1 : a1 = (0 : Int32)
  · obtain ⟨hw, -⟩ := hw
    have hw := hw e1
    refine lv_tableIn (off := 39) (tgt := 40) hx hb dX0_count_1 (by rw [e1]; decide) (by rw [e1]; decide) (by rw [e1]; rfl) (by decide) ?_
    refine lv_aload_n hx hb dX0_count_40 rfl (lv_at hl 0 rfl) ?_
    refine xx_geti hx hb hts hown hW 1 (by decide) q745 dX0_count_41 ?_
    exact gg_iret (xx_mv D E A ad sk) C0 hW hS hw dX0_count_44
  obtain ⟨-, hw⟩ := hw
  by_cases e4 : a1 = (1 : Int32)
  · obtain ⟨hw, -⟩ := hw
    have hw := hw e4
    refine lv_tableIn (off := 44) (tgt := 45) hx hb dX0_count_1 (by rw [e4]; decide) (by rw [e4]; decide) (by rw [e4]; rfl) (by decide) ?_
    refine lv_aload_n hx hb dX0_count_45 rfl (lv_at hl 0 rfl) ?_
    refine xx_VI ⟨hx, hb, hml, hown, hts⟩ hA (xxt_gapsAll l _ hw) (cwV 0 hts (lw_V q954 q956 qs39 q103 q957) rfl rfl rfl cd_X0_gapsAll ⟨Nat.le_of_ble_eq_true rfl, Nat.le_of_ble_eq_true rfl⟩) hW (xx_recv hW) hS rfl hl.1 rfl (Nat.le_of_ble_eq_true rfl) dX0_count_46 (fun r3 σ2 H locs hw hW hS => ?_)
    exact gg_iret (xx_mv D E A ad sk) C0 hW hS hw dX0_count_49
  obtain ⟨-, hw⟩ := hw
  by_cases e5 : a1 = (2 : Int32)
  · obtain ⟨hw, -⟩ := hw
    have hw := hw e5
    refine lv_tableIn (off := 49) (tgt := 50) hx hb dX0_count_1 (by rw [e5]; decide) (by rw [e5]; decide) (by rw [e5]; rfl) (by decide) ?_
    refine lv_aload_n hx hb dX0_count_50 rfl (lv_at hl 0 rfl) ?_
    refine xx_geti hx hb hts hown hW 2 (by decide) q747 dX0_count_51 ?_
    exact gg_iret (xx_mv D E A ad sk) C0 hW hS hw dX0_count_54
  obtain ⟨-, hw⟩ := hw
  by_cases e6 : a1 = (3 : Int32)
  · obtain ⟨hw, -⟩ := hw
    have hw := hw e6
    refine lv_tableIn (off := 54) (tgt := 55) hx hb dX0_count_1 (by rw [e6]; decide) (by rw [e6]; decide) (by rw [e6]; rfl) (by decide) ?_
    refine lv_aload_n hx hb dX0_count_55 rfl (lv_at hl 0 rfl) ?_
    refine xx_geti hx hb hts hown hW 13 (by decide) q763 dX0_count_56 ?_
    exact gg_iret (xx_mv D E A ad sk) C0 hW hS hw dX0_count_59
  obtain ⟨-, hw⟩ := hw
  by_cases e7 : a1 = (4 : Int32)
  · obtain ⟨hw, -⟩ := hw
    have hw := hw e7
    refine lv_tableIn (off := 59) (tgt := 60) hx hb dX0_count_1 (by rw [e7]; decide) (by rw [e7]; decide) (by rw [e7]; rfl) (by decide) ?_
    refine lv_aload_n hx hb dX0_count_60 rfl (lv_at hl 0 rfl) ?_
    refine xx_geti hx hb hts hown hW 17 (by decide) q767 dX0_count_61 ?_
    exact gg_iret (xx_mv D E A ad sk) C0 hW hS hw dX0_count_64
  obtain ⟨-, hw⟩ := hw
  by_cases e8 : a1 = (5 : Int32)
  · obtain ⟨hw, -⟩ := hw
    have hw := hw e8
    refine lv_tableIn (off := 64) (tgt := 65) hx hb dX0_count_1 (by rw [e8]; decide) (by rw [e8]; decide) (by rw [e8]; rfl) (by decide) ?_
    refine lv_aload_n hx hb dX0_count_65 rfl (lv_at hl 0 rfl) ?_
    refine xx_geti hx hb hts hown hW 24 (by decide) q774 dX0_count_66 ?_
    exact gg_iret (xx_mv D E A ad sk) C0 hW hS hw dX0_count_69
  obtain ⟨-, hw⟩ := hw
  have hw := hw ⟨e1, e4, e5, e6, e7, e8⟩
  refine lv_tableOut (tgt := 70) hx hb dX0_count_1 (gg_swout (lo := 0) (hi := 5) (by decide) (by decide) (fun v h1 h2 => ?_)) (by decide) ?_
  · have hv : v = 0 ∨ v = 1 ∨ v = 2 ∨ v = 3 ∨ v = 4 ∨ v = 5 := by omega
    rcases hv with h | h | h | h | h | h <;> subst h
    · exact e1
    · exact e4
    · exact e5
    · exact e6
    · exact e7
    · exact e8
  refine lv_bipush (v := (-2 : Int32)) hx hb dX0_count_70 (by decide) ?_
  exact gg_iret (xx_mv D E A ad sk) C0 hW hS hw dX0_count_72
