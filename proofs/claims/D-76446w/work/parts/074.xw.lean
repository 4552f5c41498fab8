theorem cd_J9_bitCount : yJ9_bitCount.cls = RJ9 ∧ yJ9_bitCount.cls ≠ "java/lang/invoke/MethodHandle" ∧ yJ9_bitCount.cls ≠ "java/lang/invoke/VarHandle" ∧ (parseMethodDescriptor yJ9_bitCount.desc).map (fun d => d.parameters.length) = some 1 := by decide +kernel
/-! java/lang/Integer.bitCount(I)I -/
def xxw_bitCount  (a0 : Int32) (σ : xx_S) (Q : Int32 → xx_S → Prop) : Prop :=
    Q ((((((((a0 - (((a0).toUInt32 >>> (((1 : Int32)).toUInt32 &&& Int32.toUInt32 31)).toInt32 &&& (1431655765 : Int32))) &&& (858993459 : Int32)) + ((((a0 - (((a0).toUInt32 >>> (((1 : Int32)).toUInt32 &&& Int32.toUInt32 31)).toInt32 &&& (1431655765 : Int32)))).toUInt32 >>> (((2 : Int32)).toUInt32 &&& Int32.toUInt32 31)).toInt32 &&& (858993459 : Int32))) + (((((a0 - (((a0).toUInt32 >>> (((1 : Int32)).toUInt32 &&& Int32.toUInt32 31)).toInt32 &&& (1431655765 : Int32))) &&& (858993459 : Int32)) + ((((a0 - (((a0).toUInt32 >>> (((1 : Int32)).toUInt32 &&& Int32.toUInt32 31)).toInt32 &&& (1431655765 : Int32)))).toUInt32 >>> (((2 : Int32)).toUInt32 &&& Int32.toUInt32 31)).toInt32 &&& (858993459 : Int32)))).toUInt32 >>> (((4 : Int32)).toUInt32 &&& Int32.toUInt32 31)).toInt32) &&& (252645135 : Int32)) + (((((((a0 - (((a0).toUInt32 >>> (((1 : Int32)).toUInt32 &&& Int32.toUInt32 31)).toInt32 &&& (1431655765 : Int32))) &&& (858993459 : Int32)) + ((((a0 - (((a0).toUInt32 >>> (((1 : Int32)).toUInt32 &&& Int32.toUInt32 31)).toInt32 &&& (1431655765 : Int32)))).toUInt32 >>> (((2 : Int32)).toUInt32 &&& Int32.toUInt32 31)).toInt32 &&& (858993459 : Int32))) + (((((a0 - (((a0).toUInt32 >>> (((1 : Int32)).toUInt32 &&& Int32.toUInt32 31)).toInt32 &&& (1431655765 : Int32))) &&& (858993459 : Int32)) + ((((a0 - (((a0).toUInt32 >>> (((1 : Int32)).toUInt32 &&& Int32.toUInt32 31)).toInt32 &&& (1431655765 : Int32)))).toUInt32 >>> (((2 : Int32)).toUInt32 &&& Int32.toUInt32 31)).toInt32 &&& (858993459 : Int32)))).toUInt32 >>> (((4 : Int32)).toUInt32 &&& Int32.toUInt32 31)).toInt32) &&& (252645135 : Int32))).toUInt32 >>> (((8 : Int32)).toUInt32 &&& Int32.toUInt32 31)).toInt32) + ((((((((a0 - (((a0).toUInt32 >>> (((1 : Int32)).toUInt32 &&& Int32.toUInt32 31)).toInt32 &&& (1431655765 : Int32))) &&& (858993459 : Int32)) + ((((a0 - (((a0).toUInt32 >>> (((1 : Int32)).toUInt32 &&& Int32.toUInt32 31)).toInt32 &&& (1431655765 : Int32)))).toUInt32 >>> (((2 : Int32)).toUInt32 &&& Int32.toUInt32 31)).toInt32 &&& (858993459 : Int32))) + (((((a0 - (((a0).toUInt32 >>> (((1 : Int32)).toUInt32 &&& Int32.toUInt32 31)).toInt32 &&& (1431655765 : Int32))) &&& (858993459 : Int32)) + ((((a0 - (((a0).toUInt32 >>> (((1 : Int32)).toUInt32 &&& Int32.toUInt32 31)).toInt32 &&& (1431655765 : Int32)))).toUInt32 >>> (((2 : Int32)).toUInt32 &&& Int32.toUInt32 31)).toInt32 &&& (858993459 : Int32)))).toUInt32 >>> (((4 : Int32)).toUInt32 &&& Int32.toUInt32 31)).toInt32) &&& (252645135 : Int32)) + (((((((a0 - (((a0).toUInt32 >>> (((1 : Int32)).toUInt32 &&& Int32.toUInt32 31)).toInt32 &&& (1431655765 : Int32))) &&& (858993459 : Int32)) + ((((a0 - (((a0).toUInt32 >>> (((1 : Int32)).toUInt32 &&& Int32.toUInt32 31)).toInt32 &&& (1431655765 : Int32)))).toUInt32 >>> (((2 : Int32)).toUInt32 &&& Int32.toUInt32 31)).toInt32 &&& (858993459 : Int32))) + (((((a0 - (((a0).toUInt32 >>> (((1 : Int32)).toUInt32 &&& Int32.toUInt32 31)).toInt32 &&& (1431655765 : Int32))) &&& (858993459 : Int32)) + ((((a0 - (((a0).toUInt32 >>> (((1 : Int32)).toUInt32 &&& Int32.toUInt32 31)).toInt32 &&& (1431655765 : Int32)))).toUInt32 >>> (((2 : Int32)).toUInt32 &&& Int32.toUInt32 31)).toInt32 &&& (858993459 : Int32)))).toUInt32 >>> (((4 : Int32)).toUInt32 &&& Int32.toUInt32 31)).toInt32) &&& (252645135 : Int32))).toUInt32 >>> (((8 : Int32)).toUInt32 &&& Int32.toUInt32 31)).toInt32)).toUInt32 >>> (((16 : Int32)).toUInt32 &&& Int32.toUInt32 31)).toInt32) &&& (63 : Int32)) σ
abbrev xxr_bitCount : Room := { frames := 0, cells := 0, slots := 0, locals := 0 }
set_option maxHeartbeats 4000000 in
set_option maxRecDepth 100000 in
theorem xxt_bitCount (l : Launch) {D : va_G} {E : Nat → ClassId} {A : Nat → Prop} {ad sk : Nat → Nat}  (a0 : Int32) (σ : xx_S) {Q : Int32 → xx_S → Prop} (hw : xxw_bitCount a0 σ Q) :
    Met l yJ9_bitCount (ws_ yJ9_bitCount cJ9_bitCount 1 (some .int)) xxr_bitCount (va_Pc [.int a0] (fun U => xx_V D E A ad sk σ U U.heap)) (va_Qi Q (fun u t => xx_W D E A ad sk u t t.heap) A) 0 0 A := by
  refine gg_entry (W0 := fun s H => xx_V D E A ad sk σ s H) (by decide) (Nat.le_of_ble_eq_true rfl) ?_
  intro p e s m args below meth c C0 hV ls hl
  have C0 : gg_C p s m args meth c RJ9 cJ9_bitCount 1 (some .int) := C0
  obtain ⟨hx, hb, hml, hown, hts, hr, hlocks⟩ := id C0
  have hl : lv_has ls 1 [(0, .int a0)] := hl
  have hS : va_S A s.heap s.heap [] := va_S.rf
  have hA : xx_A sk A s := hV.2
  have hW : xx_W D E A ad sk σ s s.heap := hV.1
  unfold xxw_bitCount at hw
  refine lv_iload_n hx hb dJ9_bitCount_0 rfl (lv_at hl 0 rfl) ?_
  refine lv_iload_n hx hb dJ9_bitCount_1 rfl (lv_at hl 0 rfl) ?_
  refine lv_iconst (v := (1 : Int32)) hx hb dJ9_bitCount_2 (by decide) ?_
  refine lv_iushr (v := ((a0).toUInt32 >>> (((1 : Int32)).toUInt32 &&& Int32.toUInt32 31)).toInt32) hx hb dJ9_bitCount_3 rfl ?_
  refine lv_ldcw (own := RJ9) (v := (1431655765 : Int32)) hx hb hown (hts _ q233) dJ9_bitCount_4 ?_
  refine lv_iand hx hb dJ9_bitCount_7 ?_
  refine lv_isub hx hb dJ9_bitCount_8 ?_
  refine lv_istore_n (lv' := [(0, .int (a0 - (((a0).toUInt32 >>> (((1 : Int32)).toUInt32 &&& Int32.toUInt32 31)).toInt32 &&& (1431655765 : Int32))))]) hx hb dJ9_bitCount_9 rfl hl (by decide) rfl (fun ls hl => ?_)
  refine lv_iload_n hx hb dJ9_bitCount_10 rfl (lv_at hl 0 rfl) ?_
  refine lv_ldcw (own := RJ9) (v := (858993459 : Int32)) hx hb hown (hts _ q234) dJ9_bitCount_11 ?_
  refine lv_iand hx hb dJ9_bitCount_14 ?_
  refine lv_iload_n hx hb dJ9_bitCount_15 rfl (lv_at hl 0 rfl) ?_
  refine lv_iconst (v := (2 : Int32)) hx hb dJ9_bitCount_16 (by decide) ?_
  refine lv_iushr (v := (((a0 - (((a0).toUInt32 >>> (((1 : Int32)).toUInt32 &&& Int32.toUInt32 31)).toInt32 &&& (1431655765 : Int32)))).toUInt32 >>> (((2 : Int32)).toUInt32 &&& Int32.toUInt32 31)).toInt32) hx hb dJ9_bitCount_17 rfl ?_
  refine lv_ldcw (own := RJ9) (v := (858993459 : Int32)) hx hb hown (hts _ q234) dJ9_bitCount_18 ?_
  refine lv_iand hx hb dJ9_bitCount_21 ?_
  refine lv_iadd hx hb dJ9_bitCount_22 ?_
  refine lv_istore_n (lv' := [(0, .int (((a0 - (((a0).toUInt32 >>> (((1 : Int32)).toUInt32 &&& Int32.toUInt32 31)).toInt32 &&& (1431655765 : Int32))) &&& (858993459 : Int32)) + ((((a0 - (((a0).toUInt32 >>> (((1 : Int32)).toUInt32 &&& Int32.toUInt32 31)).toInt32 &&& (1431655765 : Int32)))).toUInt32 >>> (((2 : Int32)).toUInt32 &&& Int32.toUInt32 31)).toInt32 &&& (858993459 : Int32))))]) hx hb dJ9_bitCount_23 rfl hl (by decide) rfl (fun ls hl => ?_)
  refine lv_iload_n hx hb dJ9_bitCount_24 rfl (lv_at hl 0 rfl) ?_
  refine lv_iload_n hx hb dJ9_bitCount_25 rfl (lv_at hl 0 rfl) ?_
  refine lv_iconst (v := (4 : Int32)) hx hb dJ9_bitCount_26 (by decide) ?_
  refine lv_iushr (v := (((((a0 - (((a0).toUInt32 >>> (((1 : Int32)).toUInt32 &&& Int32.toUInt32 31)).toInt32 &&& (1431655765 : Int32))) &&& (858993459 : Int32)) + ((((a0 - (((a0).toUInt32 >>> (((1 : Int32)).toUInt32 &&& Int32.toUInt32 31)).toInt32 &&& (1431655765 : Int32)))).toUInt32 >>> (((2 : Int32)).toUInt32 &&& Int32.toUInt32 31)).toInt32 &&& (858993459 : Int32)))).toUInt32 >>> (((4 : Int32)).toUInt32 &&& Int32.toUInt32 31)).toInt32) hx hb dJ9_bitCount_27 rfl ?_
  refine lv_iadd hx hb dJ9_bitCount_28 ?_
  refine lv_ldcw (own := RJ9) (v := (252645135 : Int32)) hx hb hown (hts _ q235) dJ9_bitCount_29 ?_
  refine lv_iand hx hb dJ9_bitCount_32 ?_
  refine lv_istore_n (lv' := [(0, .int (((((a0 - (((a0).toUInt32 >>> (((1 : Int32)).toUInt32 &&& Int32.toUInt32 31)).toInt32 &&& (1431655765 : Int32))) &&& (858993459 : Int32)) + ((((a0 - (((a0).toUInt32 >>> (((1 : Int32)).toUInt32 &&& Int32.toUInt32 31)).toInt32 &&& (1431655765 : Int32)))).toUInt32 >>> (((2 : Int32)).toUInt32 &&& Int32.toUInt32 31)).toInt32 &&& (858993459 : Int32))) + (((((a0 - (((a0).toUInt32 >>> (((1 : Int32)).toUInt32 &&& Int32.toUInt32 31)).toInt32 &&& (1431655765 : Int32))) &&& (858993459 : Int32)) + ((((a0 - (((a0).toUInt32 >>> (((1 : Int32)).toUInt32 &&& Int32.toUInt32 31)).toInt32 &&& (1431655765 : Int32)))).toUInt32 >>> (((2 : Int32)).toUInt32 &&& Int32.toUInt32 31)).toInt32 &&& (858993459 : Int32)))).toUInt32 >>> (((4 : Int32)).toUInt32 &&& Int32.toUInt32 31)).toInt32) &&& (252645135 : Int32)))]) hx hb dJ9_bitCount_33 rfl hl (by decide) rfl (fun ls hl => ?_)
  refine lv_iload_n hx hb dJ9_bitCount_34 rfl (lv_at hl 0 rfl) ?_
  refine lv_iload_n hx hb dJ9_bitCount_35 rfl (lv_at hl 0 rfl) ?_
  refine lv_bipush (v := (8 : Int32)) hx hb dJ9_bitCount_36 (by decide) ?_
  refine lv_iushr (v := (((((((a0 - (((a0).toUInt32 >>> (((1 : Int32)).toUInt32 &&& Int32.toUInt32 31)).toInt32 &&& (1431655765 : Int32))) &&& (858993459 : Int32)) + ((((a0 - (((a0).toUInt32 >>> (((1 : Int32)).toUInt32 &&& Int32.toUInt32 31)).toInt32 &&& (1431655765 : Int32)))).toUInt32 >>> (((2 : Int32)).toUInt32 &&& Int32.toUInt32 31)).toInt32 &&& (858993459 : Int32))) + (((((a0 - (((a0).toUInt32 >>> (((1 : Int32)).toUInt32 &&& Int32.toUInt32 31)).toInt32 &&& (1431655765 : Int32))) &&& (858993459 : Int32)) + ((((a0 - (((a0).toUInt32 >>> (((1 : Int32)).toUInt32 &&& Int32.toUInt32 31)).toInt32 &&& (1431655765 : Int32)))).toUInt32 >>> (((2 : Int32)).toUInt32 &&& Int32.toUInt32 31)).toInt32 &&& (858993459 : Int32)))).toUInt32 >>> (((4 : Int32)).toUInt32 &&& Int32.toUInt32 31)).toInt32) &&& (252645135 : Int32))).toUInt32 >>> (((8 : Int32)).toUInt32 &&& Int32.toUInt32 31)).toInt32) hx hb dJ9_bitCount_38 rfl ?_
  refine lv_iadd hx hb dJ9_bitCount_39 ?_
  refine lv_istore_n (lv' := [(0, .int ((((((a0 - (((a0).toUInt32 >>> (((1 : Int32)).toUInt32 &&& Int32.toUInt32 31)).toInt32 &&& (1431655765 : Int32))) &&& (858993459 : Int32)) + ((((a0 - (((a0).toUInt32 >>> (((1 : Int32)).toUInt32 &&& Int32.toUInt32 31)).toInt32 &&& (1431655765 : Int32)))).toUInt32 >>> (((2 : Int32)).toUInt32 &&& Int32.toUInt32 31)).toInt32 &&& (858993459 : Int32))) + (((((a0 - (((a0).toUInt32 >>> (((1 : Int32)).toUInt32 &&& Int32.toUInt32 31)).toInt32 &&& (1431655765 : Int32))) &&& (858993459 : Int32)) + ((((a0 - (((a0).toUInt32 >>> (((1 : Int32)).toUInt32 &&& Int32.toUInt32 31)).toInt32 &&& (1431655765 : Int32)))).toUInt32 >>> (((2 : Int32)).toUInt32 &&& Int32.toUInt32 31)).toInt32 &&& (858993459 : Int32)))).toUInt32 >>> (((4 : Int32)).toUInt32 &&& Int32.toUInt32 31)).toInt32) &&& (252645135 : Int32)) + (((((((a0 - (((a0).toUInt32 >>> (((1 : Int32)).toUInt32 &&& Int32.toUInt32 31)).toInt32 &&& (1431655765 : Int32))) &&& (858993459 : Int32)) + ((((a0 - (((a0).toUInt32 >>> (((1 : Int32)).toUInt32 &&& Int32.toUInt32 31)).toInt32 &&& (1431655765 : Int32)))).toUInt32 >>> (((2 : Int32)).toUInt32 &&& Int32.toUInt32 31)).toInt32 &&& (858993459 : Int32))) + (((((a0 - (((a0).toUInt32 >>> (((1 : Int32)).toUInt32 &&& Int32.toUInt32 31)).toInt32 &&& (1431655765 : Int32))) &&& (858993459 : Int32)) + ((((a0 - (((a0).toUInt32 >>> (((1 : Int32)).toUInt32 &&& Int32.toUInt32 31)).toInt32 &&& (1431655765 : Int32)))).toUInt32 >>> (((2 : Int32)).toUInt32 &&& Int32.toUInt32 31)).toInt32 &&& (858993459 : Int32)))).toUInt32 >>> (((4 : Int32)).toUInt32 &&& Int32.toUInt32 31)).toInt32) &&& (252645135 : Int32))).toUInt32 >>> (((8 : Int32)).toUInt32 &&& Int32.toUInt32 31)).toInt32))]) hx hb dJ9_bitCount_40 rfl hl (by decide) rfl (fun ls hl => ?_)
  refine lv_iload_n hx hb dJ9_bitCount_41 rfl (lv_at hl 0 rfl) ?_
  refine lv_iload_n hx hb dJ9_bitCount_42 rfl (lv_at hl 0 rfl) ?_
  refine lv_bipush (v := (16 : Int32)) hx hb dJ9_bitCount_43 (by decide) ?_
  refine lv_iushr (v := ((((((((a0 - (((a0).toUInt32 >>> (((1 : Int32)).toUInt32 &&& Int32.toUInt32 31)).toInt32 &&& (1431655765 : Int32))) &&& (858993459 : Int32)) + ((((a0 - (((a0).toUInt32 >>> (((1 : Int32)).toUInt32 &&& Int32.toUInt32 31)).toInt32 &&& (1431655765 : Int32)))).toUInt32 >>> (((2 : Int32)).toUInt32 &&& Int32.toUInt32 31)).toInt32 &&& (858993459 : Int32))) + (((((a0 - (((a0).toUInt32 >>> (((1 : Int32)).toUInt32 &&& Int32.toUInt32 31)).toInt32 &&& (1431655765 : Int32))) &&& (858993459 : Int32)) + ((((a0 - (((a0).toUInt32 >>> (((1 : Int32)).toUInt32 &&& Int32.toUInt32 31)).toInt32 &&& (1431655765 : Int32)))).toUInt32 >>> (((2 : Int32)).toUInt32 &&& Int32.toUInt32 31)).toInt32 &&& (858993459 : Int32)))).toUInt32 >>> (((4 : Int32)).toUInt32 &&& Int32.toUInt32 31)).toInt32) &&& (252645135 : Int32)) + (((((((a0 - (((a0).toUInt32 >>> (((1 : Int32)).toUInt32 &&& Int32.toUInt32 31)).toInt32 &&& (1431655765 : Int32))) &&& (858993459 : Int32)) + ((((a0 - (((a0).toUInt32 >>> (((1 : Int32)).toUInt32 &&& Int32.toUInt32 31)).toInt32 &&& (1431655765 : Int32)))).toUInt32 >>> (((2 : Int32)).toUInt32 &&& Int32.toUInt32 31)).toInt32 &&& (858993459 : Int32))) + (((((a0 - (((a0).toUInt32 >>> (((1 : Int32)).toUInt32 &&& Int32.toUInt32 31)).toInt32 &&& (1431655765 : Int32))) &&& (858993459 : Int32)) + ((((a0 - (((a0).toUInt32 >>> (((1 : Int32)).toUInt32 &&& Int32.toUInt32 31)).toInt32 &&& (1431655765 : Int32)))).toUInt32 >>> (((2 : Int32)).toUInt32 &&& Int32.toUInt32 31)).toInt32 &&& (858993459 : Int32)))).toUInt32 >>> (((4 : Int32)).toUInt32 &&& Int32.toUInt32 31)).toInt32) &&& (252645135 : Int32))).toUInt32 >>> (((8 : Int32)).toUInt32 &&& Int32.toUInt32 31)).toInt32)).toUInt32 >>> (((16 : Int32)).toUInt32 &&& Int32.toUInt32 31)).toInt32) hx hb dJ9_bitCount_45 rfl ?_
  refine lv_iadd hx hb dJ9_bitCount_46 ?_
  refine lv_istore_n (lv' := [(0, .int (((((((a0 - (((a0).toUInt32 >>> (((1 : Int32)).toUInt32 &&& Int32.toUInt32 31)).toInt32 &&& (1431655765 : Int32))) &&& (858993459 : Int32)) + ((((a0 - (((a0).toUInt32 >>> (((1 : Int32)).toUInt32 &&& Int32.toUInt32 31)).toInt32 &&& (1431655765 : Int32)))).toUInt32 >>> (((2 : Int32)).toUInt32 &&& Int32.toUInt32 31)).toInt32 &&& (858993459 : Int32))) + (((((a0 - (((a0).toUInt32 >>> (((1 : Int32)).toUInt32 &&& Int32.toUInt32 31)).toInt32 &&& (1431655765 : Int32))) &&& (858993459 : Int32)) + ((((a0 - (((a0).toUInt32 >>> (((1 : Int32)).toUInt32 &&& Int32.toUInt32 31)).toInt32 &&& (1431655765 : Int32)))).toUInt32 >>> (((2 : Int32)).toUInt32 &&& Int32.toUInt32 31)).toInt32 &&& (858993459 : Int32)))).toUInt32 >>> (((4 : Int32)).toUInt32 &&& Int32.toUInt32 31)).toInt32) &&& (252645135 : Int32)) + (((((((a0 - (((a0).toUInt32 >>> (((1 : Int32)).toUInt32 &&& Int32.toUInt32 31)).toInt32 &&& (1431655765 : Int32))) &&& (858993459 : Int32)) + ((((a0 - (((a0).toUInt32 >>> (((1 : Int32)).toUInt32 &&& Int32.toUInt32 31)).toInt32 &&& (1431655765 : Int32)))).toUInt32 >>> (((2 : Int32)).toUInt32 &&& Int32.toUInt32 31)).toInt32 &&& (858993459 : Int32))) + (((((a0 - (((a0).toUInt32 >>> (((1 : Int32)).toUInt32 &&& Int32.toUInt32 31)).toInt32 &&& (1431655765 : Int32))) &&& (858993459 : Int32)) + ((((a0 - (((a0).toUInt32 >>> (((1 : Int32)).toUInt32 &&& Int32.toUInt32 31)).toInt32 &&& (1431655765 : Int32)))).toUInt32 >>> (((2 : Int32)).toUInt32 &&& Int32.toUInt32 31)).toInt32 &&& (858993459 : Int32)))).toUInt32 >>> (((4 : Int32)).toUInt32 &&& Int32.toUInt32 31)).toInt32) &&& (252645135 : Int32))).toUInt32 >>> (((8 : Int32)).toUInt32 &&& Int32.toUInt32 31)).toInt32) + ((((((((a0 - (((a0).toUInt32 >>> (((1 : Int32)).toUInt32 &&& Int32.toUInt32 31)).toInt32 &&& (1431655765 : Int32))) &&& (858993459 : Int32)) + ((((a0 - (((a0).toUInt32 >>> (((1 : Int32)).toUInt32 &&& Int32.toUInt32 31)).toInt32 &&& (1431655765 : Int32)))).toUInt32 >>> (((2 : Int32)).toUInt32 &&& Int32.toUInt32 31)).toInt32 &&& (858993459 : Int32))) + (((((a0 - (((a0).toUInt32 >>> (((1 : Int32)).toUInt32 &&& Int32.toUInt32 31)).toInt32 &&& (1431655765 : Int32))) &&& (858993459 : Int32)) + ((((a0 - (((a0).toUInt32 >>> (((1 : Int32)).toUInt32 &&& Int32.toUInt32 31)).toInt32 &&& (1431655765 : Int32)))).toUInt32 >>> (((2 : Int32)).toUInt32 &&& Int32.toUInt32 31)).toInt32 &&& (858993459 : Int32)))).toUInt32 >>> (((4 : Int32)).toUInt32 &&& Int32.toUInt32 31)).toInt32) &&& (252645135 : Int32)) + (((((((a0 - (((a0).toUInt32 >>> (((1 : Int32)).toUInt32 &&& Int32.toUInt32 31)).toInt32 &&& (1431655765 : Int32))) &&& (858993459 : Int32)) + ((((a0 - (((a0).toUInt32 >>> (((1 : Int32)).toUInt32 &&& Int32.toUInt32 31)).toInt32 &&& (1431655765 : Int32)))).toUInt32 >>> (((2 : Int32)).toUInt32 &&& Int32.toUInt32 31)).toInt32 &&& (858993459 : Int32))) + (((((a0 - (((a0).toUInt32 >>> (((1 : Int32)).toUInt32 &&& Int32.toUInt32 31)).toInt32 &&& (1431655765 : Int32))) &&& (858993459 : Int32)) + ((((a0 - (((a0).toUInt32 >>> (((1 : Int32)).toUInt32 &&& Int32.toUInt32 31)).toInt32 &&& (1431655765 : Int32)))).toUInt32 >>> (((2 : Int32)).toUInt32 &&& Int32.toUInt32 31)).toInt32 &&& (858993459 : Int32)))).toUInt32 >>> (((4 : Int32)).toUInt32 &&& Int32.toUInt32 31)).toInt32) &&& (252645135 : Int32))).toUInt32 >>> (((8 : Int32)).toUInt32 &&& Int32.toUInt32 31)).toInt32)).toUInt32 >>> (((16 : Int32)).toUInt32 &&& Int32.toUInt32 31)).toInt32))]) hx hb dJ9_bitCount_47 rfl hl (by decide) rfl (fun ls hl => ?_)
  refine lv_iload_n hx hb dJ9_bitCount_48 rfl (lv_at hl 0 rfl) ?_
  refine lv_bipush (v := (63 : Int32)) hx hb dJ9_bitCount_49 (by decide) ?_
  refine lv_iand hx hb dJ9_bitCount_51 ?_
  exact gg_iret (xx_mv D E A ad sk) C0 hW hS hw dJ9_bitCount_52
theorem cd_X0_in : yX0_in.cls = RX0 ∧ yX0_in.cls ≠ "java/lang/invoke/MethodHandle" ∧ yX0_in.cls ≠ "java/lang/invoke/VarHandle" ∧ (parseMethodDescriptor yX0_in.desc).map (fun d => d.parameters.length) = some 3 := by decide +kernel
/-! GleanersForGaps.in(JJJ)Z -/
def xxw_in  (a0 : Int64) (a2 : Int64) (a4 : Int64) (σ : xx_S) (Q : Int32 → xx_S → Prop) : Prop :=
    ((((lg_cmp a0 a2) < 0) → Q (0 : Int32) σ) ∧ (¬ ((lg_cmp a0 a2) < 0) → (((0 < (lg_cmp a0 a4)) → Q (0 : Int32) σ) ∧ (¬ (0 < (lg_cmp a0 a4)) → Q (1 : Int32) σ))))
abbrev xxr_in : Room := { frames := 0, cells := 0, slots := 0, locals := 0 }
set_option maxHeartbeats 4000000 in
set_option maxRecDepth 100000 in
theorem xxt_in (l : Launch) {D : va_G} {E : Nat → ClassId} {A : Nat → Prop} {ad sk : Nat → Nat}  (a0 : Int64) (a2 : Int64) (a4 : Int64) (σ : xx_S) {Q : Int32 → xx_S → Prop} (hw : xxw_in a0 a2 a4 σ Q) :
    Met l yX0_in (ws_ yX0_in cX0_in 6 (some .boolean)) xxr_in (va_Pc [.long a0, .long a2, .long a4] (fun U => xx_V D E A ad sk σ U U.heap)) (va_Qi (fun r u => (r = 0 ∨ r = 1) ∧ Q r u) (fun u t => xx_W D E A ad sk u t t.heap) A) 0 0 A := by
  refine gg_entry (W0 := fun s H => xx_V D E A ad sk σ s H) (by decide) (Nat.le_of_ble_eq_true rfl) ?_
  intro p e s m args below meth c C0 hV ls hl
  have C0 : gg_C p s m args meth c RX0 cX0_in 6 (some .boolean) := C0
  obtain ⟨hx, hb, hml, hown, hts, hr, hlocks⟩ := id C0
  have hl : lv_has ls 6 [(0, .long a0), (2, .long a2), (4, .long a4)] := hl
  have hS : va_S A s.heap s.heap [] := va_S.rf
  have hA : xx_A sk A s := hV.2
  have hW : xx_W D E A ad sk σ s s.heap := hV.1
  unfold xxw_in at hw
  refine lv_lload_n hx hb dX0_in_0 rfl (lv_at hl 0 rfl) ?_
  refine lv_lload_n hx hb dX0_in_1 rfl (lv_at hl 1 rfl) ?_
  refine W.lcmp hx hb dX0_in_2 ?_
  refine lv_if_lt (tgt := 17) hx hb dX0_in_3 (by decide) (fun c2 => ?_) (fun c2 => ?_)
  · have hw := hw.1 c2
    refine lv_iconst (v := (0 : Int32)) hx hb dX0_in_17 (by decide) ?_
    exact gg_zret (xx_mv D E A ad sk) C0 hW hS (Or.inl rfl) hw dX0_in_18
  · have hw := hw.2 c2
    refine lv_lload_n hx hb dX0_in_6 rfl (lv_at hl 0 rfl) ?_
    refine lv_lload hx hb dX0_in_7 (lv_at hl 2 rfl) ?_
    refine W.lcmp hx hb dX0_in_9 ?_
    refine lv_if_gt (tgt := 17) hx hb dX0_in_10 (by decide) (fun c1 => ?_) (fun c1 => ?_)
    · have hw := hw.1 c1
      refine lv_iconst (v := (0 : Int32)) hx hb dX0_in_17 (by decide) ?_
      exact gg_zret (xx_mv D E A ad sk) C0 hW hS (Or.inl rfl) hw dX0_in_18
    · have hw := hw.2 c1
      refine lv_iconst (v := (1 : Int32)) hx hb dX0_in_13 (by decide) ?_
      refine lv_goto (tgt := 18) hx hb dX0_in_14 (by decide) ?_
      exact gg_zret (xx_mv D E A ad sk) C0 hW hS (Or.inr rfl) hw dX0_in_18
theorem cd_X0_gapsOf : yX0_gapsOf.cls = RX0 ∧ yX0_gapsOf.cls ≠ "java/lang/invoke/MethodHandle" ∧ yX0_gapsOf.cls ≠ "java/lang/invoke/VarHandle" ∧ (parseMethodDescriptor yX0_gapsOf.desc).map (fun d => d.parameters.length) = some 1 := by decide +kernel
/-! GleanersForGaps.gapsOf(I)I -/
def xxw_gapsOf  (a1 : Int32) (σ : xx_S) (Q : Int32 → xx_S → Prop) : Prop :=
    vp_in a1 4 ∧ vp_in a1 4 ∧ (xxw_bitCount (xx_g σ 2 a1.toNatClampNeg) σ (fun r2 σ1 => Q ((xx_g σ 1 a1.toNatClampNeg) - r2) σ1))
abbrev xxr_gapsOf : Room := { frames := 1, cells := 0, slots := 0, locals := 20 }
set_option maxHeartbeats 4000000 in
set_option maxRecDepth 100000 in
theorem xxt_gapsOf (l : Launch) {D : va_G} {E : Nat → ClassId} {A : Nat → Prop} {ad sk : Nat → Nat}  (a1 : Int32) (σ : xx_S) {Q : Int32 → xx_S → Prop} (hw : xxw_gapsOf a1 σ Q) :
    Met l yX0_gapsOf (ws_ yX0_gapsOf cX0_gapsOf 2 (some .int)) xxr_gapsOf (va_Pc [.ref (ad 0), .int a1] (fun U => xx_V D E A ad sk σ U U.heap)) (va_Qi Q (fun u t => xx_W D E A ad sk u t t.heap) A) 0 0 A := by
  refine gg_entry (W0 := fun s H => xx_V D E A ad sk σ s H) (by decide) (Nat.le_of_ble_eq_true rfl) ?_
  intro p e s m args below meth c C0 hV ls hl
  have C0 : gg_C p s m args meth c RX0 cX0_gapsOf 2 (some .int) := C0
  obtain ⟨hx, hb, hml, hown, hts, hr, hlocks⟩ := id C0
  have hl : lv_has ls 2 [(0, .ref (ad 0)), (1, .int a1)] := hl
  have hS : va_S A s.heap s.heap [] := va_S.rf
  have hA : xx_A sk A s := hV.2
  have hW : xx_W D E A ad sk σ s s.heap := hV.1
  unfold xxw_gapsOf at hw
  refine lv_aload_n hx hb dX0_gapsOf_0 rfl (lv_at hl 0 rfl) ?_
  refine xx_getr hx hb hts hown hW 3 1 (by decide) q748 dX0_gapsOf_1 ?_
  refine lv_iload_n hx hb dX0_gapsOf_4 rfl (lv_at hl 1 rfl) ?_
  obtain ⟨hin, hw⟩ := hw
  refine xx_ald hx hb hW 1 4 (by decide) rfl hin dX0_gapsOf_5 ?_
  refine lv_aload_n hx hb dX0_gapsOf_6 rfl (lv_at hl 0 rfl) ?_
  refine xx_getr hx hb hts hown hW 4 2 (by decide) q749 dX0_gapsOf_7 ?_
  refine lv_iload_n hx hb dX0_gapsOf_10 rfl (lv_at hl 1 rfl) ?_
  obtain ⟨hin, hw⟩ := hw
  refine xx_ald hx hb hW 2 4 (by decide) rfl hin dX0_gapsOf_11 ?_
  refine xx_SI ⟨hx, hb, hml, hown, hts⟩ hA (xxt_bitCount l _ _ hw) (va_cwS 1 hts (lw_S q230 q231 q121 q232) rfl rfl rfl cd_J9_bitCount.2 ⟨Nat.le_of_ble_eq_true rfl, Nat.le_of_ble_eq_true rfl⟩) hW hS rfl hl.1 rfl (Nat.le_of_ble_eq_true rfl) dX0_gapsOf_12 (fun r2 σ1 H locs hw hW hS => ?_)
  refine lv_isub hx hb dX0_gapsOf_15 ?_
  exact gg_iret (xx_mv D E A ad sk) C0 hW hS hw dX0_gapsOf_16
theorem cd_X0_isRow : yX0_isRow.cls = RX0 ∧ yX0_isRow.cls ≠ "java/lang/invoke/MethodHandle" ∧ yX0_isRow.cls ≠ "java/lang/invoke/VarHandle" ∧ (parseMethodDescriptor yX0_isRow.desc).map (fun d => d.parameters.length) = some 1 := by decide +kernel
/-! GleanersForGaps.isRow(I)Z -/
def xxw_isRow  (a0 : Int32) (σ : xx_S) (Q : Int32 → xx_S → Prop) : Prop :=
    (xxw_in ((a0).toInt64) (0 : Int64) (3 : Int64) σ (fun r2 σ1 => Q r2 σ1))
abbrev xxr_isRow : Room := { frames := 1, cells := 0, slots := 0, locals := 25 }
set_option maxHeartbeats 4000000 in
set_option maxRecDepth 100000 in
theorem xxt_isRow (l : Launch) {D : va_G} {E : Nat → ClassId} {A : Nat → Prop} {ad sk : Nat → Nat}  (a0 : Int32) (σ : xx_S) {Q : Int32 → xx_S → Prop} (hw : xxw_isRow a0 σ Q) :
    Met l yX0_isRow (ws_ yX0_isRow cX0_isRow 1 (some .boolean)) xxr_isRow (va_Pc [.int a0] (fun U => xx_V D E A ad sk σ U U.heap)) (va_Qi (fun r u => (r = 0 ∨ r = 1) ∧ Q r u) (fun u t => xx_W D E A ad sk u t t.heap) A) 0 0 A := by
  refine gg_entry (W0 := fun s H => xx_V D E A ad sk σ s H) (by decide) (Nat.le_of_ble_eq_true rfl) ?_
  intro p e s m args below meth c C0 hV ls hl
  have C0 : gg_C p s m args meth c RX0 cX0_isRow 1 (some .boolean) := C0
  obtain ⟨hx, hb, hml, hown, hts, hr, hlocks⟩ := id C0
  have hl : lv_has ls 1 [(0, .int a0)] := hl
  have hS : va_S A s.heap s.heap [] := va_S.rf
  have hA : xx_A sk A s := hV.2
  have hW : xx_W D E A ad sk σ s s.heap := hV.1
  unfold xxw_isRow at hw
  refine lv_iload_n hx hb dX0_isRow_0 rfl (lv_at hl 0 rfl) ?_
  refine lv_i2l (v := (a0).toInt64) hx hb dX0_isRow_1 rfl ?_
  refine lv_lconst (v := (0 : Int64)) hx hb dX0_isRow_2 (by decide) ?_
  refine lv_ldc2 (own := RX0) (v := (3 : Int64)) hx hb hown (hts _ q223) dX0_isRow_3 ?_
  refine xx_SI ⟨hx, hb, hml, hown, hts⟩ hA (xxt_in l _ _ _ _ hw) (va_cwS 3 hts (lw_S q139 q140 q103 q141) rfl rfl rfl cd_X0_in.2 ⟨Nat.le_of_ble_eq_true rfl, Nat.le_of_ble_eq_true rfl⟩) hW hS rfl hl.1 rfl (Nat.le_of_ble_eq_true rfl) dX0_isRow_6 (fun r2 σ1 H locs hw hW hS => ?_)
  obtain ⟨hz_r2, hw⟩ := hw
  exact gg_zret (xx_mv D E A ad sk) C0 hW hS (hz_r2) hw dX0_isRow_9
theorem cd_X0_lay : yX0_lay.cls = RX0 ∧ yX0_lay.cls ≠ "java/lang/invoke/MethodHandle" ∧ yX0_lay.cls ≠ "java/lang/invoke/VarHandle" ∧ (parseMethodDescriptor yX0_lay.desc).map (fun d => d.parameters.length) = some 3 := by decide +kernel
/-! GleanersForGaps.lay(III)I -/
def xxw_lay  (a1 : Int32) (a2 : Int32) (a3 : Int32) (σ : xx_S) (Q : Int32 → xx_S → Prop) : Prop :=
    (xxw_isRow a1 σ (fun r2 σ1 => (((r2 = 0) → Q (-2 : Int32) σ1) ∧ (¬ (r2 = 0) → (xxw_in ((a2).toInt64) (0 : Int64) (24 : Int64) σ1 (fun r4 σ3 => (((r4 = 0) → Q (-2 : Int32) σ3) ∧ (¬ (r4 = 0) → (xxw_in ((a3).toInt64) (0 : Int64) (((((1 : Int32) <<< (a2 &&& 31)) - (1 : Int32))).toInt64) σ3 (fun r6 σ5 => (((r6 = 0) → Q (-2 : Int32) σ5) ∧ (¬ (r6 = 0) → vp_in a1 4 ∧ (∀ σ7 : xx_S, σ7 = xx_s σ5 1 a1.toNatClampNeg a2 → vp_in a1 4 ∧ (∀ σ8 : xx_S, σ8 = xx_s σ7 2 a1.toNatClampNeg a3 → (xxw_gapsOf a1 σ8 (fun r10 σ9 => Q r10 σ9))))))))))))))))
abbrev xxr_lay : Room := { frames := 2, cells := 0, slots := 0, locals := 45 }
set_option maxHeartbeats 4000000 in
set_option maxRecDepth 100000 in
theorem xxt_lay (l : Launch) {D : va_G} {E : Nat → ClassId} {A : Nat → Prop} {ad sk : Nat → Nat}  (a1 : Int32) (a2 : Int32) (a3 : Int32) (σ : xx_S) {Q : Int32 → xx_S → Prop} (hw : xxw_lay a1 a2 a3 σ Q) :
    Met l yX0_lay (ws_ yX0_lay cX0_lay 4 (some .int)) xxr_lay (va_Pc [.ref (ad 0), .int a1, .int a2, .int a3] (fun U => xx_V D E A ad sk σ U U.heap)) (va_Qi Q (fun u t => xx_W D E A ad sk u t t.heap) A) 0 0 A := by
  refine gg_entry (W0 := fun s H => xx_V D E A ad sk σ s H) (by decide) (Nat.le_of_ble_eq_true rfl) ?_
  intro p e s m args below meth c C0 hV ls hl
  have C0 : gg_C p s m args meth c RX0 cX0_lay 4 (some .int) := C0
  obtain ⟨hx, hb, hml, hown, hts, hr, hlocks⟩ := id C0
  have hl : lv_has ls 4 [(0, .ref (ad 0)), (1, .int a1), (2, .int a2), (3, .int a3)] := hl
  have hS : va_S A s.heap s.heap [] := va_S.rf
  have hA : xx_A sk A s := hV.2
  have hW : xx_W D E A ad sk σ s s.heap := hV.1
  unfold xxw_lay at hw
  refine lv_iload_n hx hb dX0_lay_0 rfl (lv_at hl 1 rfl) ?_
  refine xx_SI ⟨hx, hb, hml, hown, hts⟩ hA (xxt_isRow l _ _ hw) (va_cwS 1 hts (lw_S q220 q221 q103 q222) rfl rfl rfl cd_X0_isRow.2 ⟨Nat.le_of_ble_eq_true rfl, Nat.le_of_ble_eq_true rfl⟩) hW hS rfl hl.1 rfl (Nat.le_of_ble_eq_true rfl) dX0_lay_1 (fun r2 σ1 H locs hw hW hS => ?_)
  obtain ⟨hz_r2, hw⟩ := hw
  refine lv_if_eq (tgt := 34) hx hb dX0_lay_4 (by decide) (fun c13 => ?_) (fun c13 => ?_)
  · have hw := hw.1 c13
    refine lv_bipush (v := (-2 : Int32)) hx hb dX0_lay_34 (by decide) ?_
    exact gg_iret (xx_mv D E A ad sk) C0 hW hS hw dX0_lay_36
  · have hw := hw.2 c13
    refine lv_iload_n hx hb dX0_lay_7 rfl (lv_at hl 2 rfl) ?_
    refine lv_i2l (v := (a2).toInt64) hx hb dX0_lay_8 rfl ?_
    refine lv_lconst (v := (0 : Int64)) hx hb dX0_lay_9 (by decide) ?_
    refine lv_ldc2 (own := RX0) (v := (24 : Int64)) hx hb hown (hts _ q224) dX0_lay_10 ?_
    refine xx_SI ⟨hx, hb, hml, hown, hts⟩ hA (xxt_in l _ _ _ _ hw) (va_cwS 3 hts (lw_S q139 q140 q103 q141) rfl rfl rfl cd_X0_in.2 ⟨Nat.le_of_ble_eq_true rfl, Nat.le_of_ble_eq_true rfl⟩) hW hS rfl hl.1 rfl (Nat.le_of_ble_eq_true rfl) dX0_lay_13 (fun r4 σ3 H locs hw hW hS => ?_)
    obtain ⟨hz_r4, hw⟩ := hw
    refine lv_if_eq (tgt := 34) hx hb dX0_lay_16 (by decide) (fun c12 => ?_) (fun c12 => ?_)
    · have hw := hw.1 c12
      refine lv_bipush (v := (-2 : Int32)) hx hb dX0_lay_34 (by decide) ?_
      exact gg_iret (xx_mv D E A ad sk) C0 hW hS hw dX0_lay_36
    · have hw := hw.2 c12
      refine lv_iload_n hx hb dX0_lay_19 rfl (lv_at hl 3 rfl) ?_
      refine lv_i2l (v := (a3).toInt64) hx hb dX0_lay_20 rfl ?_
      refine lv_lconst (v := (0 : Int64)) hx hb dX0_lay_21 (by decide) ?_
      refine lv_iconst (v := (1 : Int32)) hx hb dX0_lay_22 (by decide) ?_
      refine lv_iload_n hx hb dX0_lay_23 rfl (lv_at hl 2 rfl) ?_
      refine lv_ishl hx hb dX0_lay_24 ?_
      refine lv_iconst (v := (1 : Int32)) hx hb dX0_lay_25 (by decide) ?_
      refine lv_isub hx hb dX0_lay_26 ?_
      refine lv_i2l (v := ((((1 : Int32) <<< (a2 &&& 31)) - (1 : Int32))).toInt64) hx hb dX0_lay_27 rfl ?_
      refine xx_SI ⟨hx, hb, hml, hown, hts⟩ hA (xxt_in l _ _ _ _ hw) (va_cwS 3 hts (lw_S q139 q140 q103 q141) rfl rfl rfl cd_X0_in.2 ⟨Nat.le_of_ble_eq_true rfl, Nat.le_of_ble_eq_true rfl⟩) hW hS rfl hl.1 rfl (Nat.le_of_ble_eq_true rfl) dX0_lay_28 (fun r6 σ5 H locs hw hW hS => ?_)
      obtain ⟨hz_r6, hw⟩ := hw
      refine lv_if_ne (tgt := 37) hx hb dX0_lay_31 (by decide) (fun c11 => ?_) (fun c11 => ?_)
      · have hw := hw.2 c11
        refine lv_aload_n hx hb dX0_lay_37 rfl (lv_at hl 0 rfl) ?_
        refine xx_getr hx hb hts hown hW 3 1 (by decide) q748 dX0_lay_38 ?_
        refine lv_iload_n hx hb dX0_lay_41 rfl (lv_at hl 1 rfl) ?_
        refine lv_iload_n hx hb dX0_lay_42 rfl (lv_at hl 2 rfl) ?_
        obtain ⟨hin, hw⟩ := hw
        refine xx_ast hx hb hW hS 1 4 (by decide) rfl hin dX0_lay_43 (fun H locs hW hS => ?_)
        obtain ⟨σ7, eσ7⟩ : ∃ z, z = xx_s σ5 1 a1.toNatClampNeg a2 := ⟨_, rfl⟩
        rw [← eσ7] at hW
        have hw := hw σ7 eσ7
        refine lv_aload_n hx hb dX0_lay_44 rfl (lv_at hl 0 rfl) ?_
        refine xx_getr hx hb hts hown hW 4 2 (by decide) q749 dX0_lay_45 ?_
        refine lv_iload_n hx hb dX0_lay_48 rfl (lv_at hl 1 rfl) ?_
        refine lv_iload_n hx hb dX0_lay_49 rfl (lv_at hl 3 rfl) ?_
        obtain ⟨hin, hw⟩ := hw
        refine xx_ast hx hb hW hS 2 4 (by decide) rfl hin dX0_lay_50 (fun H locs hW hS => ?_)
        obtain ⟨σ8, eσ8⟩ : ∃ z, z = xx_s σ7 2 a1.toNatClampNeg a3 := ⟨_, rfl⟩
        rw [← eσ8] at hW
        have hw := hw σ8 eσ8
        refine lv_aload_n hx hb dX0_lay_51 rfl (lv_at hl 0 rfl) ?_
        refine lv_iload_n hx hb dX0_lay_52 rfl (lv_at hl 1 rfl) ?_
        refine xx_VI ⟨hx, hb, hml, hown, hts⟩ hA (xxt_gapsOf l _ _ hw) (cwV 1 hts (lw_V q225 q227 qs0 q103 q229) rfl rfl rfl cd_X0_gapsOf ⟨Nat.le_of_ble_eq_true rfl, Nat.le_of_ble_eq_true rfl⟩) hW (xx_recv hW) hS rfl hl.1 rfl (Nat.le_of_ble_eq_true rfl) dX0_lay_53 (fun r10 σ9 H locs hw hW hS => ?_)
        exact gg_iret (xx_mv D E A ad sk) C0 hW hS hw dX0_lay_56
      · have hw := hw.1 c11
        refine lv_bipush (v := (-2 : Int32)) hx hb dX0_lay_34 (by decide) ?_
        exact gg_iret (xx_mv D E A ad sk) C0 hW hS hw dX0_lay_36
theorem cd_X0_becomes : yX0_becomes.cls = RX0 ∧ yX0_becomes.cls ≠ "java/lang/invoke/MethodHandle" ∧ yX0_becomes.cls ≠ "java/lang/invoke/VarHandle" ∧ (parseMethodDescriptor yX0_becomes.desc).map (fun d => d.parameters.length) = some 3 := by decide +kernel
/-! GleanersForGaps.becomes(III)V -/
def xxw_becomes  (a1 : Int32) (a2 : Int32) (a3 : Int32) (σ : xx_S) (Q : xx_S → Prop) : Prop :=
    ((a1 = (0 : Int32) → (∀ σ1 : xx_S, σ1 = xx_s σ 0 2 a3 → Q σ1)) ∧ (a1 = (1 : Int32) → vp_in a2 5 ∧ ∃ y3 : Nat, xx_r σ 43 a2.toNatClampNeg = some y3 ∧ ∃ (k4 : Nat) (nk4 ak4 : Int32), xx_gl σ y3 k4 nk4 ak4 ∧ (∀ σ5 : xx_S, σ5 = xx_ps σ y3 (.inr (k4, [.int a3, .int ak4])) → Q σ5)) ∧ (¬ a1 = (0 : Int32) ∧ ¬ a1 = (1 : Int32) → vp_in a2 5 ∧ ∃ y7 : Nat, xx_r σ 43 a2.toNatClampNeg = some y7 ∧ ∃ (k8 : Nat) (nk8 ak8 : Int32), xx_gl σ y7 k8 nk8 ak8 ∧ (∀ σ9 : xx_S, σ9 = xx_ps σ y7 (.inr (k8, [.int nk8, .int a3])) → Q σ9)))
abbrev xxr_becomes : Room := { frames := 0, cells := 0, slots := 0, locals := 0 }
set_option maxHeartbeats 4000000 in
set_option maxRecDepth 100000 in
theorem xxt_becomes (l : Launch) {D : va_G} {E : Nat → ClassId} {A : Nat → Prop} {ad sk : Nat → Nat}  (a1 : Int32) (a2 : Int32) (a3 : Int32) (σ : xx_S) {Q : xx_S → Prop} (hw : xxw_becomes a1 a2 a3 σ Q) :
    Met l yX0_becomes (ws_ yX0_becomes cX0_becomes 4 none) xxr_becomes (va_Pc [.ref (ad 0), .int a1, .int a2, .int a3] (fun U => xx_V D E A ad sk σ U U.heap)) (va_Qv Q (fun u t => xx_W D E A ad sk u t t.heap) A) 0 0 A := by
  refine gg_entry (W0 := fun s H => xx_V D E A ad sk σ s H) (by decide) (Nat.le_of_ble_eq_true rfl) ?_
  intro p e s m args below meth c C0 hV ls hl
  have C0 : gg_C p s m args meth c RX0 cX0_becomes 4 none := C0
  obtain ⟨hx, hb, hml, hown, hts, hr, hlocks⟩ := id C0
  have hl : lv_has ls 4 [(0, .ref (ad 0)), (1, .int a1), (2, .int a2), (3, .int a3)] := hl
  have hS : va_S A s.heap s.heap [] := va_S.rf
  have hA : xx_A sk A s := hV.2
  have hW : xx_W D E A ad sk σ s s.heap := hV.1
  unfold xxw_becomes at hw
  refine lv_iload_n hx hb dX0_becomes_0 rfl (lv_at hl 1 rfl) ?_
  by_cases e2 : a1 = (0 : Int32)
  · obtain ⟨hw, -⟩ := hw
    have hw := hw e2
    refine lv_lookup (off := 27) (tgt := 28) hx hb dX0_becomes_1 (by decide) (by rw [e2]; rfl) (by decide) ?_
    refine lv_aload_n hx hb dX0_becomes_28 rfl (lv_at hl 0 rfl) ?_
    refine lv_iload_n hx hb dX0_becomes_29 rfl (lv_at hl 3 rfl) ?_
    refine xx_puti hx hb hts hown hW hS 2 (by decide) q747 rfl rfl rfl dX0_becomes_30 (fun H locs hW hS => ?_)
    obtain ⟨σ1, eσ1⟩ : ∃ z, z = xx_s σ 0 2 a3 := ⟨_, rfl⟩
    rw [← eσ1] at hW
    have hw := hw σ1 eσ1
    refine lv_goto (tgt := 59) hx hb dX0_becomes_33 (by decide) ?_
    exact gg_vret (xx_mv D E A ad sk) C0 hW hS hw dX0_becomes_59
  obtain ⟨-, hw⟩ := hw
  by_cases e6 : a1 = (1 : Int32)
  · obtain ⟨hw, -⟩ := hw
    have hw := hw e6
    refine lv_lookup (off := 35) (tgt := 36) hx hb dX0_becomes_1 (by decide) (by rw [e6]; rfl) (by decide) ?_
    refine lv_aload_n hx hb dX0_becomes_36 rfl (lv_at hl 0 rfl) ?_
    refine xx_getr hx hb hts hown hW 0 43 (by decide) q744 dX0_becomes_37 ?_
    refine lv_iload_n hx hb dX0_becomes_40 rfl (lv_at hl 2 rfl) ?_
    obtain ⟨hin, y3, hy, hw⟩ := hw
    refine xx_aldF hx hb hW hin hy dX0_becomes_41 ?_
    refine lv_iload_n hx hb dX0_becomes_42 rfl (lv_at hl 3 rfl) ?_
    obtain ⟨k4, nk4, ak4, hgl, hw⟩ := hw
    refine xx_pgln hx hb hts hown hW hS hgl q162 (fun _ h9 => h9) dX0_becomes_43 (fun H locs hW hS => ?_)
    obtain ⟨σ5, eσ5⟩ : ∃ z, z = xx_ps σ y3 (.inr (k4, [.int a3, .int ak4])) := ⟨_, rfl⟩
    rw [← eσ5] at hW
    have hw := hw σ5 eσ5
    refine lv_goto (tgt := 59) hx hb dX0_becomes_46 (by decide) ?_
    exact gg_vret (xx_mv D E A ad sk) C0 hW hS hw dX0_becomes_59
  obtain ⟨-, hw⟩ := hw
  have hw := hw ⟨e2, e6⟩
  refine lv_lookup (off := 48) (tgt := 49) hx hb dX0_becomes_1 (by decide) (gg_lkout _ _ _ (fun q hq => ?_)) (by decide) ?_
  · simp only [List.mem_cons, List.not_mem_nil, or_false] at hq
    rcases hq with h | h <;> subst h
    · exact e2
    · exact e6
  refine lv_aload_n hx hb dX0_becomes_49 rfl (lv_at hl 0 rfl) ?_
  refine xx_getr hx hb hts hown hW 0 43 (by decide) q744 dX0_becomes_50 ?_
  refine lv_iload_n hx hb dX0_becomes_53 rfl (lv_at hl 2 rfl) ?_
  obtain ⟨hin, y7, hy, hw⟩ := hw
  refine xx_aldF hx hb hW hin hy dX0_becomes_54 ?_
  refine lv_iload_n hx hb dX0_becomes_55 rfl (lv_at hl 3 rfl) ?_
  obtain ⟨k8, nk8, ak8, hgl, hw⟩ := hw
  refine xx_pgla hx hb hts hown hW hS hgl q168 (fun _ h9 => h9) dX0_becomes_56 (fun H locs hW hS => ?_)
  obtain ⟨σ9, eσ9⟩ : ∃ z, z = xx_ps σ y7 (.inr (k8, [.int nk8, .int a3])) := ⟨_, rfl⟩
  rw [← eσ9] at hW
  have hw := hw σ9 eσ9
  exact gg_vret (xx_mv D E A ad sk) C0 hW hS hw dX0_becomes_59
theorem cd_X0_isOne : yX0_isOne.cls = RX0 ∧ yX0_isOne.cls ≠ "java/lang/invoke/MethodHandle" ∧ yX0_isOne.cls ≠ "java/lang/invoke/VarHandle" ∧ (parseMethodDescriptor yX0_isOne.desc).map (fun d => d.parameters.length) = some 1 := by decide +kernel
/-! GleanersForGaps.isOne(I)Z -/
def xxw_isOne  (a1 : Int32) (σ : xx_S) (Q : Int32 → xx_S → Prop) : Prop :=
    (xxw_in ((a1).toInt64) (0 : Int64) ((((xx_g σ 0 1) - (1 : Int32))).toInt64) σ (fun r2 σ1 => Q r2 σ1))
abbrev xxr_isOne : Room := { frames := 1, cells := 0, slots := 0, locals := 25 }
set_option maxHeartbeats 4000000 in
set_option maxRecDepth 100000 in
theorem xxt_isOne (l : Launch) {D : va_G} {E : Nat → ClassId} {A : Nat → Prop} {ad sk : Nat → Nat}  (a1 : Int32) (σ : xx_S) {Q : Int32 → xx_S → Prop} (hw : xxw_isOne a1 σ Q) :
    Met l yX0_isOne (ws_ yX0_isOne cX0_isOne 2 (some .boolean)) xxr_isOne (va_Pc [.ref (ad 0), .int a1] (fun U => xx_V D E A ad sk σ U U.heap)) (va_Qi (fun r u => (r = 0 ∨ r = 1) ∧ Q r u) (fun u t => xx_W D E A ad sk u t t.heap) A) 0 0 A := by
  refine gg_entry (W0 := fun s H => xx_V D E A ad sk σ s H) (by decide) (Nat.le_of_ble_eq_true rfl) ?_
  intro p e s m args below meth c C0 hV ls hl
  have C0 : gg_C p s m args meth c RX0 cX0_isOne 2 (some .boolean) := C0
  obtain ⟨hx, hb, hml, hown, hts, hr, hlocks⟩ := id C0
  have hl : lv_has ls 2 [(0, .ref (ad 0)), (1, .int a1)] := hl
  have hS : va_S A s.heap s.heap [] := va_S.rf
  have hA : xx_A sk A s := hV.2
  have hW : xx_W D E A ad sk σ s s.heap := hV.1
  unfold xxw_isOne at hw
  refine lv_iload_n hx hb dX0_isOne_0 rfl (lv_at hl 1 rfl) ?_
  refine lv_i2l (v := (a1).toInt64) hx hb dX0_isOne_1 rfl ?_
  refine lv_lconst (v := (0 : Int64)) hx hb dX0_isOne_2 (by decide) ?_
  refine lv_aload_n hx hb dX0_isOne_3 rfl (lv_at hl 0 rfl) ?_
  refine xx_geti hx hb hts hown hW 1 (by decide) q745 dX0_isOne_4 ?_
  refine lv_iconst (v := (1 : Int32)) hx hb dX0_isOne_7 (by decide) ?_
  refine lv_isub hx hb dX0_isOne_8 ?_
  refine lv_i2l (v := (((xx_g σ 0 1) - (1 : Int32))).toInt64) hx hb dX0_isOne_9 rfl ?_
  refine xx_SI ⟨hx, hb, hml, hown, hts⟩ hA (xxt_in l _ _ _ _ hw) (va_cwS 3 hts (lw_S q139 q140 q103 q141) rfl rfl rfl cd_X0_in.2 ⟨Nat.le_of_ble_eq_true rfl, Nat.le_of_ble_eq_true rfl⟩) hW hS rfl hl.1 rfl (Nat.le_of_ble_eq_true rfl) dX0_isOne_10 (fun r2 σ1 H locs hw hW hS => ?_)
  obtain ⟨hz_r2, hw⟩ := hw
  exact gg_zret (xx_mv D E A ad sk) C0 hW hS (hz_r2) hw dX0_isOne_13
theorem cd_X0_isSo : yX0_isSo.cls = RX0 ∧ yX0_isSo.cls ≠ "java/lang/invoke/MethodHandle" ∧ yX0_isSo.cls ≠ "java/lang/invoke/VarHandle" ∧ (parseMethodDescriptor yX0_isSo.desc).map (fun d => d.parameters.length) = some 3 := by decide +kernel
/-! GleanersForGaps.isSo(III)Z -/
def xxw_isSo  (a1 : Int32) (a2 : Int32) (a3 : Int32) (σ : xx_S) (Q : Int32 → xx_S → Prop) : Prop :=
    ((a1 = (0 : Int32) → (xxw_in ((a3).toInt64) (0 : Int64) (999 : Int64) σ (fun r2 σ1 => Q r2 σ1))) ∧ (a1 = (1 : Int32) → (xxw_isOne a2 σ (fun r5 σ4 => (((r5 = 0) → Q (0 : Int32) σ4) ∧ (¬ (r5 = 0) → (xxw_in ((a3).toInt64) (0 : Int64) (9 : Int64) σ4 (fun r7 σ6 => (((r7 = 0) → Q (0 : Int32) σ6) ∧ (¬ (r7 = 0) → Q (1 : Int32) σ6))))))))) ∧ (¬ a1 = (0 : Int32) ∧ ¬ a1 = (1 : Int32) → (((a1 = (2 : Int32)) → (xxw_isOne a2 σ (fun r12 σ11 => (((r12 = 0) → Q (0 : Int32) σ11) ∧ (¬ (r12 = 0) → (xxw_in ((a3).toInt64) (0 : Int64) (999 : Int64) σ11 (fun r14 σ13 => (((r14 = 0) → Q (0 : Int32) σ13) ∧ (¬ (r14 = 0) → Q (1 : Int32) σ13))))))))) ∧ (¬ (a1 = (2 : Int32)) → Q (0 : Int32) σ))))
abbrev xxr_isSo : Room := { frames := 2, cells := 0, slots := 0, locals := 46 }
set_option maxHeartbeats 4000000 in
set_option maxRecDepth 100000 in
theorem xxt_isSo (l : Launch) {D : va_G} {E : Nat → ClassId} {A : Nat → Prop} {ad sk : Nat → Nat}  (a1 : Int32) (a2 : Int32) (a3 : Int32) (σ : xx_S) {Q : Int32 → xx_S → Prop} (hw : xxw_isSo a1 a2 a3 σ Q) :
    Met l yX0_isSo (ws_ yX0_isSo cX0_isSo 4 (some .boolean)) xxr_isSo (va_Pc [.ref (ad 0), .int a1, .int a2, .int a3] (fun U => xx_V D E A ad sk σ U U.heap)) (va_Qi (fun r u => (r = 0 ∨ r = 1) ∧ Q r u) (fun u t => xx_W D E A ad sk u t t.heap) A) 0 0 A := by
  refine gg_entry (W0 := fun s H => xx_V D E A ad sk σ s H) (by decide) (Nat.le_of_ble_eq_true rfl) ?_
  intro p e s m args below meth c C0 hV ls hl
  have C0 : gg_C p s m args meth c RX0 cX0_isSo 4 (some .boolean) := C0
  obtain ⟨hx, hb, hml, hown, hts, hr, hlocks⟩ := id C0
  have hl : lv_has ls 4 [(0, .ref (ad 0)), (1, .int a1), (2, .int a2), (3, .int a3)] := hl
  have hS : va_S A s.heap s.heap [] := va_S.rf
  have hA : xx_A sk A s := hV.2
  have hW : xx_W D E A ad sk σ s s.heap := hV.1
  unfold xxw_isSo at hw
  refine lv_iload_n hx hb dX0_isSo_0 rfl (lv_at hl 1 rfl) ?_
  by_cases e3 : a1 = (0 : Int32)
  · obtain ⟨hw, -⟩ := hw
    have hw := hw e3
    refine lv_lookup (off := 27) (tgt := 28) hx hb dX0_isSo_1 (by decide) (by rw [e3]; rfl) (by decide) ?_
    refine lv_iload_n hx hb dX0_isSo_28 rfl (lv_at hl 3 rfl) ?_
    refine lv_i2l (v := (a3).toInt64) hx hb dX0_isSo_29 rfl ?_
    refine lv_lconst (v := (0 : Int64)) hx hb dX0_isSo_30 (by decide) ?_
    refine lv_ldc2 (own := RX0) (v := (999 : Int64)) hx hb hown (hts _ q244) dX0_isSo_31 ?_
    refine xx_SI ⟨hx, hb, hml, hown, hts⟩ hA (xxt_in l _ _ _ _ hw) (va_cwS 3 hts (lw_S q139 q140 q103 q141) rfl rfl rfl cd_X0_in.2 ⟨Nat.le_of_ble_eq_true rfl, Nat.le_of_ble_eq_true rfl⟩) hW hS rfl hl.1 rfl (Nat.le_of_ble_eq_true rfl) dX0_isSo_34 (fun r2 σ1 H locs hw hW hS => ?_)
    obtain ⟨hz_r2, hw⟩ := hw
    exact gg_zret (xx_mv D E A ad sk) C0 hW hS (hz_r2) hw dX0_isSo_37
  obtain ⟨-, hw⟩ := hw
  by_cases e10 : a1 = (1 : Int32)
  · obtain ⟨hw, -⟩ := hw
    have hw := hw e10
    refine lv_lookup (off := 37) (tgt := 38) hx hb dX0_isSo_1 (by decide) (by rw [e10]; rfl) (by decide) ?_
    refine lv_aload_n hx hb dX0_isSo_38 rfl (lv_at hl 0 rfl) ?_
    refine lv_iload_n hx hb dX0_isSo_39 rfl (lv_at hl 2 rfl) ?_
    refine xx_VI ⟨hx, hb, hml, hown, hts⟩ hA (xxt_isOne l _ _ hw) (cwV 1 hts (lw_V q245 q247 qs2 q103 q248) rfl rfl rfl cd_X0_isOne ⟨Nat.le_of_ble_eq_true rfl, Nat.le_of_ble_eq_true rfl⟩) hW (xx_recv hW) hS rfl hl.1 rfl (Nat.le_of_ble_eq_true rfl) dX0_isSo_40 (fun r5 σ4 H locs hw hW hS => ?_)
    obtain ⟨hz_r5, hw⟩ := hw
    refine lv_if_eq (tgt := 62) hx hb dX0_isSo_43 (by decide) (fun c9 => ?_) (fun c9 => ?_)
    · have hw := hw.1 c9
      refine lv_iconst (v := (0 : Int32)) hx hb dX0_isSo_62 (by decide) ?_
      exact gg_zret (xx_mv D E A ad sk) C0 hW hS (Or.inl rfl) hw dX0_isSo_63
    · have hw := hw.2 c9
      refine lv_iload_n hx hb dX0_isSo_46 rfl (lv_at hl 3 rfl) ?_
      refine lv_i2l (v := (a3).toInt64) hx hb dX0_isSo_47 rfl ?_
      refine lv_lconst (v := (0 : Int64)) hx hb dX0_isSo_48 (by decide) ?_
      refine lv_ldc2 (own := RX0) (v := (9 : Int64)) hx hb hown (hts _ q142) dX0_isSo_49 ?_
      refine xx_SI ⟨hx, hb, hml, hown, hts⟩ hA (xxt_in l _ _ _ _ hw) (va_cwS 3 hts (lw_S q139 q140 q103 q141) rfl rfl rfl cd_X0_in.2 ⟨Nat.le_of_ble_eq_true rfl, Nat.le_of_ble_eq_true rfl⟩) hW hS rfl hl.1 rfl (Nat.le_of_ble_eq_true rfl) dX0_isSo_52 (fun r7 σ6 H locs hw hW hS => ?_)
      obtain ⟨hz_r7, hw⟩ := hw
      refine lv_if_eq (tgt := 62) hx hb dX0_isSo_55 (by decide) (fun c8 => ?_) (fun c8 => ?_)
      · have hw := hw.1 c8
        refine lv_iconst (v := (0 : Int32)) hx hb dX0_isSo_62 (by decide) ?_
        exact gg_zret (xx_mv D E A ad sk) C0 hW hS (Or.inl rfl) hw dX0_isSo_63
      · have hw := hw.2 c8
        refine lv_iconst (v := (1 : Int32)) hx hb dX0_isSo_58 (by decide) ?_
        refine lv_goto (tgt := 63) hx hb dX0_isSo_59 (by decide) ?_
        exact gg_zret (xx_mv D E A ad sk) C0 hW hS (Or.inr rfl) hw dX0_isSo_63
  obtain ⟨-, hw⟩ := hw
  have hw := hw ⟨e3, e10⟩
  refine lv_lookup (off := 63) (tgt := 64) hx hb dX0_isSo_1 (by decide) (gg_lkout _ _ _ (fun q hq => ?_)) (by decide) ?_
  · simp only [List.mem_cons, List.not_mem_nil, or_false] at hq
    rcases hq with h | h <;> subst h
    · exact e3
    · exact e10
  refine lv_iload_n hx hb dX0_isSo_64 rfl (lv_at hl 1 rfl) ?_
  refine lv_iconst (v := (2 : Int32)) hx hb dX0_isSo_65 (by decide) ?_
  refine lv_icmp_ne (tgt := 93) hx hb dX0_isSo_66 (by decide) (fun c17 => ?_) (fun c17 => ?_)
  · have hw := hw.2 c17
    refine lv_iconst (v := (0 : Int32)) hx hb dX0_isSo_93 (by decide) ?_
    exact gg_zret (xx_mv D E A ad sk) C0 hW hS (Or.inl rfl) hw dX0_isSo_94
  · have hw := hw.1 c17
    refine lv_aload_n hx hb dX0_isSo_69 rfl (lv_at hl 0 rfl) ?_
    refine lv_iload_n hx hb dX0_isSo_70 rfl (lv_at hl 2 rfl) ?_
    refine xx_VI ⟨hx, hb, hml, hown, hts⟩ hA (xxt_isOne l _ _ hw) (cwV 1 hts (lw_V q245 q247 qs2 q103 q248) rfl rfl rfl cd_X0_isOne ⟨Nat.le_of_ble_eq_true rfl, Nat.le_of_ble_eq_true rfl⟩) hW (xx_recv hW) hS rfl hl.1 rfl (Nat.le_of_ble_eq_true rfl) dX0_isSo_71 (fun r12 σ11 H locs hw hW hS => ?_)
    obtain ⟨hz_r12, hw⟩ := hw
    refine lv_if_eq (tgt := 93) hx hb dX0_isSo_74 (by decide) (fun c16 => ?_) (fun c16 => ?_)
    · have hw := hw.1 c16
      refine lv_iconst (v := (0 : Int32)) hx hb dX0_isSo_93 (by decide) ?_
      exact gg_zret (xx_mv D E A ad sk) C0 hW hS (Or.inl rfl) hw dX0_isSo_94
    · have hw := hw.2 c16
      refine lv_iload_n hx hb dX0_isSo_77 rfl (lv_at hl 3 rfl) ?_
      refine lv_i2l (v := (a3).toInt64) hx hb dX0_isSo_78 rfl ?_
      refine lv_lconst (v := (0 : Int64)) hx hb dX0_isSo_79 (by decide) ?_
      refine lv_ldc2 (own := RX0) (v := (999 : Int64)) hx hb hown (hts _ q244) dX0_isSo_80 ?_
      refine xx_SI ⟨hx, hb, hml, hown, hts⟩ hA (xxt_in l _ _ _ _ hw) (va_cwS 3 hts (lw_S q139 q140 q103 q141) rfl rfl rfl cd_X0_in.2 ⟨Nat.le_of_ble_eq_true rfl, Nat.le_of_ble_eq_true rfl⟩) hW hS rfl hl.1 rfl (Nat.le_of_ble_eq_true rfl) dX0_isSo_83 (fun r14 σ13 H locs hw hW hS => ?_)
      obtain ⟨hz_r14, hw⟩ := hw
      refine lv_if_eq (tgt := 93) hx hb dX0_isSo_86 (by decide) (fun c15 => ?_) (fun c15 => ?_)
      · have hw := hw.1 c15
        refine lv_iconst (v := (0 : Int32)) hx hb dX0_isSo_93 (by decide) ?_
        exact gg_zret (xx_mv D E A ad sk) C0 hW hS (Or.inl rfl) hw dX0_isSo_94
      · have hw := hw.2 c15
        refine lv_iconst (v := (1 : Int32)) hx hb dX0_isSo_89 (by decide) ?_
        refine lv_goto (tgt := 94) hx hb dX0_isSo_90 (by decide) ?_
        exact gg_zret (xx_mv D E A ad sk) C0 hW hS (Or.inr rfl) hw dX0_isSo_94
theorem cd_X0_held : yX0_held.cls = RX0 ∧ yX0_held.cls ≠ "java/lang/invoke/MethodHandle" ∧ yX0_held.cls ≠ "java/lang/invoke/VarHandle" ∧ (parseMethodDescriptor yX0_held.desc).map (fun d => d.parameters.length) = some 3 := by decide +kernel
/-! GleanersForGaps.held(III)I -/
def xxw_held  (a0 : Int32) (a1 : Int32) (a2 : Int32) (σ : xx_S) (Q : Int32 → xx_S → Prop) : Prop :=
    Q (if a1 < (if a0 < a2 then a0 else a2) then (if a0 < a2 then a0 else a2) else a1) σ
abbrev xxr_held : Room := { frames := 1, cells := 0, slots := 0, locals := 24 }
set_option maxHeartbeats 4000000 in
set_option maxRecDepth 100000 in
theorem xxt_held (l : Launch) {D : va_G} {E : Nat → ClassId} {A : Nat → Prop} {ad sk : Nat → Nat}  (a0 : Int32) (a1 : Int32) (a2 : Int32) (σ : xx_S) {Q : Int32 → xx_S → Prop} (hw : xxw_held a0 a1 a2 σ Q) :
    Met l yX0_held (ws_ yX0_held cX0_held 3 (some .int)) xxr_held (va_Pc [.int a0, .int a1, .int a2] (fun U => xx_V D E A ad sk σ U U.heap)) (va_Qi Q (fun u t => xx_W D E A ad sk u t t.heap) A) 0 0 A := by
  refine gg_entry (W0 := fun s H => xx_V D E A ad sk σ s H) (by decide) (Nat.le_of_ble_eq_true rfl) ?_
  intro p e s m args below meth c C0 hV ls hl
  have C0 : gg_C p s m args meth c RX0 cX0_held 3 (some .int) := C0
  obtain ⟨hx, hb, hml, hown, hts, hr, hlocks⟩ := id C0
  have hl : lv_has ls 3 [(0, .int a0), (1, .int a1), (2, .int a2)] := hl
  have hS : va_S A s.heap s.heap [] := va_S.rf
  have hA : xx_A sk A s := hV.2
  have hW : xx_W D E A ad sk σ s s.heap := hV.1
  unfold xxw_held at hw
  refine lv_iload_n hx hb dX0_held_0 rfl (lv_at hl 1 rfl) ?_
  refine lv_iload_n hx hb dX0_held_1 rfl (lv_at hl 2 rfl) ?_
  refine lv_iload_n hx hb dX0_held_2 rfl (lv_at hl 0 rfl) ?_
  refine va_mmin hx hb (hml.trans hl.1.symm) hown (hts _ q308) (hts _ q309) (hts _ q113) (hts _ q310) (Nat.le_of_ble_eq_true rfl) (Nat.le_of_ble_eq_true rfl) (Nat.zero_le _) (Nat.zero_le _) dX0_held_3 ?_
  refine va_mmax hx hb (hml.trans hl.1.symm) hown (hts _ q273) (hts _ q274) (hts _ q113) (hts _ q275) (Nat.le_of_ble_eq_true rfl) (Nat.le_of_ble_eq_true rfl) (Nat.zero_le _) (Nat.zero_le _) dX0_held_6 ?_
  exact gg_iret (xx_mv D E A ad sk) C0 hW hS hw dX0_held_9
theorem cd_X0_looksAt : yX0_looksAt.cls = RX0 ∧ yX0_looksAt.cls ≠ "java/lang/invoke/MethodHandle" ∧ yX0_looksAt.cls ≠ "java/lang/invoke/VarHandle" ∧ (parseMethodDescriptor yX0_looksAt.desc).map (fun d => d.parameters.length) = some 1 := by decide +kernel
/-! GleanersForGaps.looksAt(I)V -/
def xxw_looksAt_41  (Q : xx_S → Prop)  (s1 : Int32) (σ : xx_S) : Prop :=
    (∀ σ6 : xx_S, σ6 = xx_s σ 0 10 s1 → Q σ6)
def xxw_looksAt_19  (Q : xx_S → Prop)  (x1 : Int32) (s1 : Int32) (σ : xx_S) : Prop :=
    (∀ σ3 : xx_S, σ3 = xx_s σ 0 9 s1 → (((x1 = (-1 : Int32)) → xxw_looksAt_41 Q (0 : Int32) σ3) ∧ (¬ (x1 = (-1 : Int32)) → vp_in x1 5 ∧ ∃ y4 : Nat, xx_r σ3 43 x1.toNatClampNeg = some y4 ∧ ∃ (k5 : Nat) (nk5 ak5 : Int32), xx_gl σ3 y4 k5 nk5 ak5 ∧ xxw_looksAt_41 Q ak5 σ3)))
def xxw_looksAt  (a1 : Int32) (σ : xx_S) (Q : xx_S → Prop) : Prop :=
    (((a1 = (-1 : Int32)) → xxw_looksAt_19 Q a1 (0 : Int32) σ) ∧ (¬ (a1 = (-1 : Int32)) → vp_in a1 5 ∧ ∃ y1 : Nat, xx_r σ 43 a1.toNatClampNeg = some y1 ∧ ∃ (k2 : Nat) (nk2 ak2 : Int32), xx_gl σ y1 k2 nk2 ak2 ∧ xxw_looksAt_19 Q a1 nk2 σ))
abbrev xxr_looksAt : Room := { frames := 0, cells := 0, slots := 0, locals := 0 }
set_option maxHeartbeats 4000000 in
set_option maxRecDepth 100000 in
theorem xxk_looksAt_41 {p : Program} {l : Launch} {e : Env} {s : State} {m : MethodId} {args : Array Value} {below : List Frame} {meth : Method} {c : Code} {D : va_G} {E : Nat → ClassId} {A : Nat → Prop} {ad sk : Nat → Nat} {Q : xx_S → Prop}   (C0 : gg_C p s m args meth c RX0 cX0_looksAt 2 none) (hA : xx_A sk A s) :
    ∀ (s1 : Int32) (σ : xx_S) (H : Heap) (locs : List Loc) (ls : Array Slot), xxw_looksAt_41 Q s1 σ → xx_W D E A ad sk σ s H → va_S A s.heap H locs → lv_has ls 2 [(0, .ref (ad 0))] → W p l e xxr_looksAt s m args below meth c H locs 0 0 (MQ below (va_Qv Q (fun u t => xx_W D E A ad sk u t t.heap) A) args s 0 0 A) (F0 m 41 ls [.int s1, .ref (ad 0)]) := by
  obtain ⟨hx, hb, hml, hown, hts, hr, hlocks⟩ := id C0
  intro s1 σ H locs ls hw hW hS hl
  unfold xxw_looksAt_41 at hw
  refine xx_puti hx hb hts hown hW hS 10 (by decide) q759 rfl rfl rfl dX0_looksAt_41 (fun H locs hW hS => ?_)
  obtain ⟨σ6, eσ6⟩ : ∃ z, z = xx_s σ 0 10 s1 := ⟨_, rfl⟩
  rw [← eσ6] at hW
  have hw := hw σ6 eσ6
  exact gg_vret (xx_mv D E A ad sk) C0 hW hS hw dX0_looksAt_44
set_option maxHeartbeats 4000000 in
set_option maxRecDepth 100000 in
theorem xxk_looksAt_19 {p : Program} {l : Launch} {e : Env} {s : State} {m : MethodId} {args : Array Value} {below : List Frame} {meth : Method} {c : Code} {D : va_G} {E : Nat → ClassId} {A : Nat → Prop} {ad sk : Nat → Nat} {Q : xx_S → Prop}   (C0 : gg_C p s m args meth c RX0 cX0_looksAt 2 none) (hA : xx_A sk A s) :
    ∀ (x1 : Int32) (s1 : Int32) (σ : xx_S) (H : Heap) (locs : List Loc) (ls : Array Slot), xxw_looksAt_19 Q x1 s1 σ → xx_W D E A ad sk σ s H → va_S A s.heap H locs → lv_has ls 2 [(0, .ref (ad 0)), (1, .int x1)] → W p l e xxr_looksAt s m args below meth c H locs 0 0 (MQ below (va_Qv Q (fun u t => xx_W D E A ad sk u t t.heap) A) args s 0 0 A) (F0 m 19 ls [.int s1, .ref (ad 0)]) := by
  obtain ⟨hx, hb, hml, hown, hts, hr, hlocks⟩ := id C0
  intro x1 s1 σ H locs ls hw hW hS hl
  unfold xxw_looksAt_19 at hw
  refine xx_puti hx hb hts hown hW hS 9 (by decide) q757 rfl rfl rfl dX0_looksAt_19 (fun H locs hW hS => ?_)
  obtain ⟨σ3, eσ3⟩ : ∃ z, z = xx_s σ 0 9 s1 := ⟨_, rfl⟩
  rw [← eσ3] at hW
  have hw := hw σ3 eσ3
  refine lv_aload_n hx hb dX0_looksAt_22 rfl (lv_at hl 0 rfl) ?_
  refine lv_iload_n hx hb dX0_looksAt_23 rfl (lv_at hl 1 rfl) ?_
  refine lv_iconst (v := (-1 : Int32)) hx hb dX0_looksAt_24 (by decide) ?_
  refine lv_icmp_ne (tgt := 32) hx hb dX0_looksAt_25 (by decide) (fun c7 => ?_) (fun c7 => ?_)
  · have hw := hw.2 c7
    refine lv_aload_n hx hb dX0_looksAt_32 rfl (lv_at hl 0 rfl) ?_
    refine xx_getr hx hb hts hown hW 0 43 (by decide) q744 dX0_looksAt_33 ?_
    refine lv_iload_n hx hb dX0_looksAt_36 rfl (lv_at hl 1 rfl) ?_
    obtain ⟨hin, y4, hy, hw⟩ := hw
    refine xx_aldF hx hb hW hin hy dX0_looksAt_37 ?_
    obtain ⟨k5, nk5, ak5, hgl, hw⟩ := hw
    refine xx_gla hx hb hts hown hW hgl q168 (fun _ h9 => h9) dX0_looksAt_38 ?_
    exact xxk_looksAt_41  C0 hA  ak5 σ3 _ _ _ hw hW hS (lv_sub hl [0] rfl)
  · have hw := hw.1 c7
    refine lv_iconst (v := (0 : Int32)) hx hb dX0_looksAt_28 (by decide) ?_
    refine lv_goto (tgt := 41) hx hb dX0_looksAt_29 (by decide) ?_
    exact xxk_looksAt_41  C0 hA  (0 : Int32) σ3 _ _ _ hw hW hS (lv_sub hl [0] rfl)
set_option maxHeartbeats 4000000 in
set_option maxRecDepth 100000 in
theorem xxt_looksAt (l : Launch) {D : va_G} {E : Nat → ClassId} {A : Nat → Prop} {ad sk : Nat → Nat}  (a1 : Int32) (σ : xx_S) {Q : xx_S → Prop} (hw : xxw_looksAt a1 σ Q) :
    Met l yX0_looksAt (ws_ yX0_looksAt cX0_looksAt 2 none) xxr_looksAt (va_Pc [.ref (ad 0), .int a1] (fun U => xx_V D E A ad sk σ U U.heap)) (va_Qv Q (fun u t => xx_W D E A ad sk u t t.heap) A) 0 0 A := by
  refine gg_entry (W0 := fun s H => xx_V D E A ad sk σ s H) (by decide) (Nat.le_of_ble_eq_true rfl) ?_
  intro p e s m args below meth c C0 hV ls hl
  have C0 : gg_C p s m args meth c RX0 cX0_looksAt 2 none := C0
  obtain ⟨hx, hb, hml, hown, hts, hr, hlocks⟩ := id C0
  have hl : lv_has ls 2 [(0, .ref (ad 0)), (1, .int a1)] := hl
  have hS : va_S A s.heap s.heap [] := va_S.rf
  have hA : xx_A sk A s := hV.2
  have hW : xx_W D E A ad sk σ s s.heap := hV.1
  unfold xxw_looksAt at hw
  refine lv_aload_n hx hb dX0_looksAt_0 rfl (lv_at hl 0 rfl) ?_
  refine lv_iload_n hx hb dX0_looksAt_1 rfl (lv_at hl 1 rfl) ?_
  refine lv_iconst (v := (-1 : Int32)) hx hb dX0_looksAt_2 (by decide) ?_
  refine lv_icmp_ne (tgt := 10) hx hb dX0_looksAt_3 (by decide) (fun c8 => ?_) (fun c8 => ?_)
  · have hw := hw.2 c8
    refine lv_aload_n hx hb dX0_looksAt_10 rfl (lv_at hl 0 rfl) ?_
    refine xx_getr hx hb hts hown hW 0 43 (by decide) q744 dX0_looksAt_11 ?_
    refine lv_iload_n hx hb dX0_looksAt_14 rfl (lv_at hl 1 rfl) ?_
    obtain ⟨hin, y1, hy, hw⟩ := hw
    refine xx_aldF hx hb hW hin hy dX0_looksAt_15 ?_
    obtain ⟨k2, nk2, ak2, hgl, hw⟩ := hw
    refine xx_gln hx hb hts hown hW hgl q162 (fun _ h9 => h9) dX0_looksAt_16 ?_
    exact xxk_looksAt_19  C0 hA  a1 nk2 σ _ _ _ hw hW hS (hl)
  · have hw := hw.1 c8
    refine lv_iconst (v := (0 : Int32)) hx hb dX0_looksAt_6 (by decide) ?_
    refine lv_goto (tgt := 19) hx hb dX0_looksAt_7 (by decide) ?_
    exact xxk_looksAt_19  C0 hA  a1 (0 : Int32) σ _ _ _ hw hW hS (hl)
theorem cd_X0_keepsOf : yX0_keepsOf.cls = RX0 ∧ yX0_keepsOf.cls ≠ "java/lang/invoke/MethodHandle" ∧ yX0_keepsOf.cls ≠ "java/lang/invoke/VarHandle" ∧ (parseMethodDescriptor yX0_keepsOf.desc).map (fun d => d.parameters.length) = some 1 := by decide +kernel
/-! GleanersForGaps.keepsOf(I)I -/
def xxw_keepsOf  (a1 : Int32) (σ : xx_S) (Q : Int32 → xx_S → Prop) : Prop :=
    (xxw_looksAt a1 σ (fun σ1 => vp_in a1 5 ∧ ∃ y2 : Nat, xx_r σ1 43 a1.toNatClampNeg = some y2 ∧ (xxw_says (1 : Int32) (0 : Int32) (0 : Int32) (0 : Int32) σ1 (fun r4 σ3 => (xxw_held r4 (0 : Int32) (100 : Int32) σ3 (fun r6 σ5 => (xxw_vkeeps y2 r6 σ5 (fun r8 σ7 => (xxw_held r8 (0 : Int32) (999 : Int32) σ7 (fun r10 σ9 => Q r10 σ9))))))))))
abbrev xxr_keepsOf : Room := { frames := 203, cells := 0, slots := 0, locals := 6024 }
set_option maxHeartbeats 4000000 in
set_option maxRecDepth 100000 in
theorem xxt_keepsOf (l : Launch) {D : va_G} {E : Nat → ClassId} {A : Nat → Prop} {ad sk : Nat → Nat}  (a1 : Int32) (σ : xx_S) {Q : Int32 → xx_S → Prop} (hw : xxw_keepsOf a1 σ Q) :
    Met l yX0_keepsOf (ws_ yX0_keepsOf cX0_keepsOf 2 (some .int)) xxr_keepsOf (va_Pc [.ref (ad 0), .int a1] (fun U => xx_V D E A ad sk σ U U.heap)) (va_Qi Q (fun u t => xx_W D E A ad sk u t t.heap) A) 0 0 A := by
  refine gg_entry (W0 := fun s H => xx_V D E A ad sk σ s H) (by decide) (Nat.le_of_ble_eq_true rfl) ?_
  intro p e s m args below meth c C0 hV ls hl
  have C0 : gg_C p s m args meth c RX0 cX0_keepsOf 2 (some .int) := C0
  obtain ⟨hx, hb, hml, hown, hts, hr, hlocks⟩ := id C0
  have hl : lv_has ls 2 [(0, .ref (ad 0)), (1, .int a1)] := hl
  have hS : va_S A s.heap s.heap [] := va_S.rf
  have hA : xx_A sk A s := hV.2
  have hW : xx_W D E A ad sk σ s s.heap := hV.1
  unfold xxw_keepsOf at hw
  refine lv_aload_n hx hb dX0_keepsOf_0 rfl (lv_at hl 0 rfl) ?_
  refine lv_iload_n hx hb dX0_keepsOf_1 rfl (lv_at hl 1 rfl) ?_
  refine xx_VV ⟨hx, hb, hml, hown, hts⟩ hA (xxt_looksAt l _ _ hw) (cwV 1 hts (lw_V q280 q282 qs8 q103 q283) rfl rfl rfl cd_X0_looksAt ⟨Nat.le_of_ble_eq_true rfl, Nat.le_of_ble_eq_true rfl⟩) hW (xx_recv hW) hS rfl hl.1 rfl (Nat.le_of_ble_eq_true rfl) dX0_keepsOf_2 (fun σ1 H locs hw hW hS => ?_)
  refine lv_aload_n hx hb dX0_keepsOf_5 rfl (lv_at hl 0 rfl) ?_
  refine xx_getr hx hb hts hown hW 0 43 (by decide) q744 dX0_keepsOf_6 ?_
  refine lv_iload_n hx hb dX0_keepsOf_9 rfl (lv_at hl 1 rfl) ?_
  obtain ⟨hin, y2, hy, hw⟩ := hw
  refine xx_aldF hx hb hW hin hy dX0_keepsOf_10 ?_
  refine lv_aload_n hx hb dX0_keepsOf_11 rfl (lv_at hl 0 rfl) ?_
  refine lv_iconst (v := (1 : Int32)) hx hb dX0_keepsOf_12 (by decide) ?_
  refine lv_iconst (v := (0 : Int32)) hx hb dX0_keepsOf_13 (by decide) ?_
  refine lv_iconst (v := (0 : Int32)) hx hb dX0_keepsOf_14 (by decide) ?_
  refine lv_iconst (v := (0 : Int32)) hx hb dX0_keepsOf_15 (by decide) ?_
  refine xx_VI ⟨hx, hb, hml, hown, hts⟩ hA (xxt_says l _ _ _ _ _ hw) (cwV 4 hts (lw_V q284 q286 qs9 q103 q287) rfl rfl rfl cd_X0_says ⟨Nat.le_of_ble_eq_true rfl, Nat.le_of_ble_eq_true rfl⟩) hW (xx_recv hW) hS rfl hl.1 rfl (Nat.le_of_ble_eq_true rfl) dX0_keepsOf_16 (fun r4 σ3 H locs hw hW hS => ?_)
  refine lv_iconst (v := (0 : Int32)) hx hb dX0_keepsOf_19 (by decide) ?_
  refine lv_bipush (v := (100 : Int32)) hx hb dX0_keepsOf_20 (by decide) ?_
  refine xx_SI ⟨hx, hb, hml, hown, hts⟩ hA (xxt_held l _ _ _ _ hw) (va_cwS 3 hts (lw_S q305 q306 q103 q307) rfl rfl rfl cd_X0_held.2 ⟨Nat.le_of_ble_eq_true rfl, Nat.le_of_ble_eq_true rfl⟩) hW hS rfl hl.1 rfl (Nat.le_of_ble_eq_true rfl) dX0_keepsOf_22 (fun r6 σ5 H locs hw hW hS => ?_)
  refine xx_vc_keeps ⟨hx, hb, hml, hown, hts⟩ hA hw q345 ⟨Nat.le_of_ble_eq_true rfl, Nat.le_of_ble_eq_true rfl⟩ hW hS hl.1 (Nat.le_of_ble_eq_true rfl) dX0_keepsOf_25 (fun r8 σ7 H locs hw hW hS => ?_)
  refine lv_iconst (v := (0 : Int32)) hx hb dX0_keepsOf_28 (by decide) ?_
  refine lv_sipush (v := (999 : Int32)) hx hb dX0_keepsOf_29 (by decide) ?_
  refine xx_SI ⟨hx, hb, hml, hown, hts⟩ hA (xxt_held l _ _ _ _ hw) (va_cwS 3 hts (lw_S q305 q306 q103 q307) rfl rfl rfl cd_X0_held.2 ⟨Nat.le_of_ble_eq_true rfl, Nat.le_of_ble_eq_true rfl⟩) hW hS rfl hl.1 rfl (Nat.le_of_ble_eq_true rfl) dX0_keepsOf_32 (fun r10 σ9 H locs hw hW hS => ?_)
  exact gg_iret (xx_mv D E A ad sk) C0 hW hS hw dX0_keepsOf_35
theorem cd_X0_toldOf : yX0_toldOf.cls = RX0 ∧ yX0_toldOf.cls ≠ "java/lang/invoke/MethodHandle" ∧ yX0_toldOf.cls ≠ "java/lang/invoke/VarHandle" ∧ (parseMethodDescriptor yX0_toldOf.desc).map (fun d => d.parameters.length) = some 2 := by decide +kernel
/-! GleanersForGaps.toldOf(II)I -/
def xxw_toldOf  (a1 : Int32) (a2 : Int32) (σ : xx_S) (Q : Int32 → xx_S → Prop) : Prop :=
    ((a2 = (1 : Int32) → vp_in a1 5 ∧ ∃ y1 : Nat, xx_r σ 43 a1.toNatClampNeg = some y1 ∧ ∃ (k2 : Nat) (nk2 ak2 : Int32), xx_gl σ y1 k2 nk2 ak2 ∧ Q nk2 σ) ∧ (a2 = (2 : Int32) → vp_in a1 5 ∧ ∃ y4 : Nat, xx_r σ 43 a1.toNatClampNeg = some y4 ∧ ∃ (k5 : Nat) (nk5 ak5 : Int32), xx_gl σ y4 k5 nk5 ak5 ∧ Q ak5 σ) ∧ (a2 = (3 : Int32) → vp_in a1 5 ∧ ∃ y7 : Nat, xx_r σ 43 a1.toNatClampNeg = some y7 ∧ (xxw_vkind y7 σ (fun r9 σ8 => Q r9 σ8))) ∧ (¬ a2 = (1 : Int32) ∧ ¬ a2 = (2 : Int32) ∧ ¬ a2 = (3 : Int32) → (xxw_keepsOf a1 σ (fun r12 σ11 => Q r12 σ11))))
abbrev xxr_toldOf : Room := { frames := 204, cells := 0, slots := 0, locals := 6045 }
set_option maxHeartbeats 4000000 in
set_option maxRecDepth 100000 in
theorem xxt_toldOf (l : Launch) {D : va_G} {E : Nat → ClassId} {A : Nat → Prop} {ad sk : Nat → Nat}  (a1 : Int32) (a2 : Int32) (σ : xx_S) {Q : Int32 → xx_S → Prop} (hw : xxw_toldOf a1 a2 σ Q) :
    Met l yX0_toldOf (ws_ yX0_toldOf cX0_toldOf 3 (some .int)) xxr_toldOf (va_Pc [.ref (ad 0), .int a1, .int a2] (fun U => xx_V D E A ad sk σ U U.heap)) (va_Qi Q (fun u t => xx_W D E A ad sk u t t.heap) A) 0 0 A := by
  refine gg_entry (W0 := fun s H => xx_V D E A ad sk σ s H) (by decide) (Nat.le_of_ble_eq_true rfl) ?_
  intro p e s m args below meth c C0 hV ls hl
  have C0 : gg_C p s m args meth c RX0 cX0_toldOf 3 (some .int) := C0
  obtain ⟨hx, hb, hml, hown, hts, hr, hlocks⟩ := id C0
  have hl : lv_has ls 3 [(0, .ref (ad 0)), (1, .int a1), (2, .int a2)] := hl
  have hS : va_S A s.heap s.heap [] := va_S.rf
  have hA : xx_A sk A s := hV.2
  have hW : xx_W D E A ad sk σ s s.heap := hV.1
  unfold xxw_toldOf at hw
  refine lv_iload_n hx hb dX0_toldOf_0 rfl (lv_at hl 2 rfl) ?_
  by_cases e3 : a2 = (1 : Int32)
  · obtain ⟨hw, -⟩ := hw
    have hw := hw e3
    refine lv_tableIn (off := 27) (tgt := 28) hx hb dX0_toldOf_1 (by rw [e3]; decide) (by rw [e3]; decide) (by rw [e3]; rfl) (by decide) ?_
    refine lv_aload_n hx hb dX0_toldOf_28 rfl (lv_at hl 0 rfl) ?_
    refine xx_getr hx hb hts hown hW 0 43 (by decide) q744 dX0_toldOf_29 ?_
    refine lv_iload_n hx hb dX0_toldOf_32 rfl (lv_at hl 1 rfl) ?_
    obtain ⟨hin, y1, hy, hw⟩ := hw
    refine xx_aldF hx hb hW hin hy dX0_toldOf_33 ?_
    obtain ⟨k2, nk2, ak2, hgl, hw⟩ := hw
    refine xx_gln hx hb hts hown hW hgl q162 (fun _ h9 => h9) dX0_toldOf_34 ?_
    exact gg_iret (xx_mv D E A ad sk) C0 hW hS hw dX0_toldOf_37
  obtain ⟨-, hw⟩ := hw
  by_cases e6 : a2 = (2 : Int32)
  · obtain ⟨hw, -⟩ := hw
    have hw := hw e6
    refine lv_tableIn (off := 37) (tgt := 38) hx hb dX0_toldOf_1 (by rw [e6]; decide) (by rw [e6]; decide) (by rw [e6]; rfl) (by decide) ?_
    refine lv_aload_n hx hb dX0_toldOf_38 rfl (lv_at hl 0 rfl) ?_
    refine xx_getr hx hb hts hown hW 0 43 (by decide) q744 dX0_toldOf_39 ?_
    refine lv_iload_n hx hb dX0_toldOf_42 rfl (lv_at hl 1 rfl) ?_
    obtain ⟨hin, y4, hy, hw⟩ := hw
    refine xx_aldF hx hb hW hin hy dX0_toldOf_43 ?_
    obtain ⟨k5, nk5, ak5, hgl, hw⟩ := hw
    refine xx_gla hx hb hts hown hW hgl q168 (fun _ h9 => h9) dX0_toldOf_44 ?_
    exact gg_iret (xx_mv D E A ad sk) C0 hW hS hw dX0_toldOf_47
  obtain ⟨-, hw⟩ := hw
  by_cases e10 : a2 = (3 : Int32)
  · obtain ⟨hw, -⟩ := hw
    have hw := hw e10
    refine lv_tableIn (off := 47) (tgt := 48) hx hb dX0_toldOf_1 (by rw [e10]; decide) (by rw [e10]; decide) (by rw [e10]; rfl) (by decide) ?_
    refine lv_aload_n hx hb dX0_toldOf_48 rfl (lv_at hl 0 rfl) ?_
    refine xx_getr hx hb hts hown hW 0 43 (by decide) q744 dX0_toldOf_49 ?_
    refine lv_iload_n hx hb dX0_toldOf_52 rfl (lv_at hl 1 rfl) ?_
    obtain ⟨hin, y7, hy, hw⟩ := hw
    refine xx_aldF hx hb hW hin hy dX0_toldOf_53 ?_
    refine xx_vc_kind ⟨hx, hb, hml, hown, hts⟩ hA hw q316 ⟨Nat.le_of_ble_eq_true rfl, Nat.le_of_ble_eq_true rfl⟩ hW hS hl.1 (Nat.le_of_ble_eq_true rfl) dX0_toldOf_54 (fun r9 σ8 H locs hw hW hS => ?_)
    exact gg_iret (xx_mv D E A ad sk) C0 hW hS hw dX0_toldOf_57
  obtain ⟨-, hw⟩ := hw
  have hw := hw ⟨e3, e6, e10⟩
  refine lv_tableOut (tgt := 58) hx hb dX0_toldOf_1 (gg_swout (lo := 1) (hi := 3) (by decide) (by decide) (fun v h1 h2 => ?_)) (by decide) ?_
  · have hv : v = 1 ∨ v = 2 ∨ v = 3 := by omega
    rcases hv with h | h | h <;> subst h
    · exact e3
    · exact e6
    · exact e10
  refine lv_aload_n hx hb dX0_toldOf_58 rfl (lv_at hl 0 rfl) ?_
  refine lv_iload_n hx hb dX0_toldOf_59 rfl (lv_at hl 1 rfl) ?_
  refine xx_VI ⟨hx, hb, hml, hown, hts⟩ hA (xxt_keepsOf l _ _ hw) (cwV 1 hts (lw_V q341 q343 qs11 q103 q344) rfl rfl rfl cd_X0_keepsOf ⟨Nat.le_of_ble_eq_true rfl, Nat.le_of_ble_eq_true rfl⟩) hW (xx_recv hW) hS rfl hl.1 rfl (Nat.le_of_ble_eq_true rfl) dX0_toldOf_60 (fun r12 σ11 H locs hw hW hS => ?_)
  exact gg_iret (xx_mv D E A ad sk) C0 hW hS hw dX0_toldOf_63
theorem cd_X0_isIn : yX0_isIn.cls = RX0 ∧ yX0_isIn.cls ≠ "java/lang/invoke/MethodHandle" ∧ yX0_isIn.cls ≠ "java/lang/invoke/VarHandle" ∧ (parseMethodDescriptor yX0_isIn.desc).map (fun d => d.parameters.length) = some 2 := by decide +kernel
/-! GleanersForGaps.isIn(II)Z -/
def xxw_isIn  (a0 : Int32) (a1 : Int32) (σ : xx_S) (Q : Int32 → xx_S → Prop) : Prop :=
    (((((a0 >>> (a1 &&& 31)) &&& (1 : Int32)) = (1 : Int32)) → Q (1 : Int32) σ) ∧ (¬ (((a0 >>> (a1 &&& 31)) &&& (1 : Int32)) = (1 : Int32)) → Q (0 : Int32) σ))
abbrev xxr_isIn : Room := { frames := 0, cells := 0, slots := 0, locals := 0 }
set_option maxHeartbeats 4000000 in
set_option maxRecDepth 100000 in
theorem xxt_isIn (l : Launch) {D : va_G} {E : Nat → ClassId} {A : Nat → Prop} {ad sk : Nat → Nat}  (a0 : Int32) (a1 : Int32) (σ : xx_S) {Q : Int32 → xx_S → Prop} (hw : xxw_isIn a0 a1 σ Q) :
    Met l yX0_isIn (ws_ yX0_isIn cX0_isIn 2 (some .boolean)) xxr_isIn (va_Pc [.int a0, .int a1] (fun U => xx_V D E A ad sk σ U U.heap)) (va_Qi (fun r u => (r = 0 ∨ r = 1) ∧ Q r u) (fun u t => xx_W D E A ad sk u t t.heap) A) 0 0 A := by
  refine gg_entry (W0 := fun s H => xx_V D E A ad sk σ s H) (by decide) (Nat.le_of_ble_eq_true rfl) ?_
  intro p e s m args below meth c C0 hV ls hl
  have C0 : gg_C p s m args meth c RX0 cX0_isIn 2 (some .boolean) := C0
  obtain ⟨hx, hb, hml, hown, hts, hr, hlocks⟩ := id C0
  have hl : lv_has ls 2 [(0, .int a0), (1, .int a1)] := hl
  have hS : va_S A s.heap s.heap [] := va_S.rf
  have hA : xx_A sk A s := hV.2
  have hW : xx_W D E A ad sk σ s s.heap := hV.1
  unfold xxw_isIn at hw
  refine lv_iload_n hx hb dX0_isIn_0 rfl (lv_at hl 0 rfl) ?_
  refine lv_iload_n hx hb dX0_isIn_1 rfl (lv_at hl 1 rfl) ?_
  refine lv_ishr hx hb dX0_isIn_2 ?_
  refine lv_iconst (v := (1 : Int32)) hx hb dX0_isIn_3 (by decide) ?_
  refine lv_iand hx hb dX0_isIn_4 ?_
  refine lv_iconst (v := (1 : Int32)) hx hb dX0_isIn_5 (by decide) ?_
  refine lv_icmp_ne (tgt := 13) hx hb dX0_isIn_6 (by decide) (fun c1 => ?_) (fun c1 => ?_)
  · have hw := hw.2 c1
    refine lv_iconst (v := (0 : Int32)) hx hb dX0_isIn_13 (by decide) ?_
    exact gg_zret (xx_mv D E A ad sk) C0 hW hS (Or.inl rfl) hw dX0_isIn_14
  · have hw := hw.1 c1
    refine lv_iconst (v := (1 : Int32)) hx hb dX0_isIn_9 (by decide) ?_
    refine lv_goto (tgt := 14) hx hb dX0_isIn_10 (by decide) ?_
    exact gg_zret (xx_mv D E A ad sk) C0 hW hS (Or.inr rfl) hw dX0_isIn_14
theorem cd_X0_tellsRuns : yX0_tellsRuns.cls = RX0 ∧ yX0_tellsRuns.cls ≠ "java/lang/invoke/MethodHandle" ∧ yX0_tellsRuns.cls ≠ "java/lang/invoke/VarHandle" ∧ (parseMethodDescriptor yX0_tellsRuns.desc).map (fun d => d.parameters.length) = some 1 := by decide +kernel
/-! GleanersForGaps.tellsRuns(I)I -/
def xxw_tellsRuns_81  (Q : Int32 → xx_S → Prop) (K7 : Int32 → Int32 → Int32 → Int32 → xx_S → Prop) (x1 : Int32) (x2 : Int32) (x4 : Int32) (s0 : Int32) (σ : xx_S) : Prop :=
    K7 x1 x2 s0 (x4 + (1 : Int32)) σ
def xxw_tellsRuns_69  (Q : Int32 → xx_S → Prop) (K7 : Int32 → Int32 → Int32 → Int32 → xx_S → Prop) (x1 : Int32) (x2 : Int32) (x3 : Int32) (x4 : Int32) (x5 : Int32) (σ : xx_S) : Prop :=
    (((x5 = 0) → xxw_tellsRuns_81 Q K7 x1 x2 x4 (0 : Int32) σ) ∧ (¬ (x5 = 0) → xxw_tellsRuns_81 Q K7 x1 x2 x4 (x3 + (1 : Int32)) σ))
def xxw_tellsRuns_48  (Q : Int32 → xx_S → Prop) (K7 : Int32 → Int32 → Int32 → Int32 → xx_S → Prop) (x1 : Int32) (x2 : Int32) (x3 : Int32) (x4 : Int32) (s0 : Int32) (σ : xx_S) : Prop :=
    (((s0 = 0) → (((x3 ≤ 0) → xxw_tellsRuns_69 Q K7 x1 x2 x3 x4 s0 σ) ∧ (¬ (x3 ≤ 0) → vp_in x2 24 ∧ (∀ σ2 : xx_S, σ2 = xx_s σ 3 x2.toNatClampNeg x3 → xxw_tellsRuns_69 Q K7 x1 (x2 + (1 : Int32)) x3 x4 s0 σ2)))) ∧ (¬ (s0 = 0) → xxw_tellsRuns_69 Q K7 x1 x2 x3 x4 s0 σ))
def xxw_tellsRuns_47  (Q : Int32 → xx_S → Prop) (K7 : Int32 → Int32 → Int32 → Int32 → xx_S → Prop) (x1 : Int32) (x2 : Int32) (x3 : Int32) (x4 : Int32) (σ : xx_S) : Prop :=
    xxw_tellsRuns_48 Q K7 x1 x2 x3 x4 (0 : Int32) σ
def xxw_tellsRuns_7  (Q : Int32 → xx_S → Prop)  : Nat → Int32 → Int32 → Int32 → Int32 → xx_S → Prop
  | 0, _, _, _, _, _ => False
  | n + 1, x1, x2, x3, x4, σ =>
    vp_in x1 4 ∧ ((((xx_g σ 1 x1.toNatClampNeg) < x4) → Q x2 σ) ∧ (¬ ((xx_g σ 1 x1.toNatClampNeg) < x4) → vp_in x1 4 ∧ ((((xx_g σ 1 x1.toNatClampNeg) ≤ x4) → xxw_tellsRuns_47 Q (fun y0 y1 y2 y3 τ => xxw_tellsRuns_7 Q n y0 y1 y2 y3 τ) x1 x2 x3 x4 σ) ∧ (¬ ((xx_g σ 1 x1.toNatClampNeg) ≤ x4) → vp_in x1 4 ∧ (xxw_isIn (xx_g σ 2 x1.toNatClampNeg) x4 σ (fun r6 σ5 => (((r6 = 0) → xxw_tellsRuns_48 Q (fun y0 y1 y2 y3 τ => xxw_tellsRuns_7 Q n y0 y1 y2 y3 τ) x1 x2 x3 x4 (1 : Int32) σ5) ∧ (¬ (r6 = 0) → xxw_tellsRuns_47 Q (fun y0 y1 y2 y3 τ => xxw_tellsRuns_7 Q n y0 y1 y2 y3 τ) x1 x2 x3 x4 σ5))))))))
def xxw_tellsRuns  (a1 : Int32) (σ : xx_S) (Q : Int32 → xx_S → Prop) : Prop :=
    ∃ k9, xxw_tellsRuns_7 Q k9 a1 (0 : Int32) (0 : Int32) (0 : Int32) σ
abbrev xxr_tellsRuns : Room := { frames := 1, cells := 0, slots := 0, locals := 21 }
set_option maxHeartbeats 4000000 in
set_option maxRecDepth 100000 in
theorem xxk_tellsRuns_81 {p : Program} {l : Launch} {e : Env} {s : State} {m : MethodId} {args : Array Value} {below : List Frame} {meth : Method} {c : Code} {D : va_G} {E : Nat → ClassId} {A : Nat → Prop} {ad sk : Nat → Nat} {Q : Int32 → xx_S → Prop} {K7 : Int32 → Int32 → Int32 → Int32 → xx_S → Prop}  (C0 : gg_C p s m args meth c RX0 cX0_tellsRuns 6 (some .int)) (hA : xx_A sk A s) (hK7 : ∀ (x1 : Int32) (x2 : Int32) (x3 : Int32) (x4 : Int32) (σ : xx_S) (H : Heap) (locs : List Loc) (ls : Array Slot), K7 x1 x2 x3 x4 σ → xx_W D E A ad sk σ s H → va_S A s.heap H locs → lv_has ls 6 [(0, .ref (ad 0)), (1, .int x1), (2, .int x2), (3, .int x3), (4, .int x4)] → W p l e xxr_tellsRuns s m args below meth c H locs 0 0 (MQ below (va_Qi Q (fun u t => xx_W D E A ad sk u t t.heap) A) args s 0 0 A) (F0 m 7 ls [])) :
    ∀ (x1 : Int32) (x2 : Int32) (x4 : Int32) (s0 : Int32) (σ : xx_S) (H : Heap) (locs : List Loc) (ls : Array Slot), xxw_tellsRuns_81 Q K7 x1 x2 x4 s0 σ → xx_W D E A ad sk σ s H → va_S A s.heap H locs → lv_has ls 6 [(0, .ref (ad 0)), (1, .int x1), (2, .int x2), (4, .int x4)] → W p l e xxr_tellsRuns s m args below meth c H locs 0 0 (MQ below (va_Qi Q (fun u t => xx_W D E A ad sk u t t.heap) A) args s 0 0 A) (F0 m 81 ls [.int s0]) := by
  obtain ⟨hx, hb, hml, hown, hts, hr, hlocks⟩ := id C0
  intro x1 x2 x4 s0 σ H locs ls hw hW hS hl
  unfold xxw_tellsRuns_81 at hw
  refine lv_istore_n (lv' := [(3, .int s0), (0, .ref (ad 0)), (1, .int x1), (2, .int x2), (4, .int x4)]) hx hb dX0_tellsRuns_81 rfl hl (by decide) rfl (fun ls hl => ?_)
  refine lv_iinc (v := (x4 + (1 : Int32))) (lv' := [(4, .int (x4 + (1 : Int32))), (3, .int s0), (0, .ref (ad 0)), (1, .int x1), (2, .int x2)]) hx hb dX0_tellsRuns_82 hl (k := 4) rfl rfl (by decide) rfl (fun ls hl => ?_)
  refine lv_goto (tgt := 7) hx hb dX0_tellsRuns_85 (by decide) ?_
  exact hK7 x1 x2 s0 (x4 + (1 : Int32)) σ _ _ _ hw hW hS (lv_sub hl [2, 3, 4, 1, 0] rfl)
set_option maxHeartbeats 4000000 in
set_option maxRecDepth 100000 in
theorem xxk_tellsRuns_69 {p : Program} {l : Launch} {e : Env} {s : State} {m : MethodId} {args : Array Value} {below : List Frame} {meth : Method} {c : Code} {D : va_G} {E : Nat → ClassId} {A : Nat → Prop} {ad sk : Nat → Nat} {Q : Int32 → xx_S → Prop} {K7 : Int32 → Int32 → Int32 → Int32 → xx_S → Prop}  (C0 : gg_C p s m args meth c RX0 cX0_tellsRuns 6 (some .int)) (hA : xx_A sk A s) (hK7 : ∀ (x1 : Int32) (x2 : Int32) (x3 : Int32) (x4 : Int32) (σ : xx_S) (H : Heap) (locs : List Loc) (ls : Array Slot), K7 x1 x2 x3 x4 σ → xx_W D E A ad sk σ s H → va_S A s.heap H locs → lv_has ls 6 [(0, .ref (ad 0)), (1, .int x1), (2, .int x2), (3, .int x3), (4, .int x4)] → W p l e xxr_tellsRuns s m args below meth c H locs 0 0 (MQ below (va_Qi Q (fun u t => xx_W D E A ad sk u t t.heap) A) args s 0 0 A) (F0 m 7 ls [])) :
    ∀ (x1 : Int32) (x2 : Int32) (x3 : Int32) (x4 : Int32) (x5 : Int32) (σ : xx_S) (H : Heap) (locs : List Loc) (ls : Array Slot), xxw_tellsRuns_69 Q K7 x1 x2 x3 x4 x5 σ → xx_W D E A ad sk σ s H → va_S A s.heap H locs → lv_has ls 6 [(0, .ref (ad 0)), (1, .int x1), (2, .int x2), (3, .int x3), (4, .int x4), (5, .int x5)] → W p l e xxr_tellsRuns s m args below meth c H locs 0 0 (MQ below (va_Qi Q (fun u t => xx_W D E A ad sk u t t.heap) A) args s 0 0 A) (F0 m 69 ls []) := by
  obtain ⟨hx, hb, hml, hown, hts, hr, hlocks⟩ := id C0
  intro x1 x2 x3 x4 x5 σ H locs ls hw hW hS hl
  unfold xxw_tellsRuns_69 at hw
  refine lv_iload hx hb dX0_tellsRuns_69 (lv_at hl 5 rfl) ?_
  refine lv_if_eq (tgt := 80) hx hb dX0_tellsRuns_71 (by decide) (fun c1 => ?_) (fun c1 => ?_)
  · have hw := hw.1 c1
    refine lv_iconst (v := (0 : Int32)) hx hb dX0_tellsRuns_80 (by decide) ?_
    exact xxk_tellsRuns_81  C0 hA hK7 x1 x2 x4 (0 : Int32) σ _ _ _ hw hW hS (lv_sub hl [0, 1, 2, 4] rfl)
  · have hw := hw.2 c1
    refine lv_iload_n hx hb dX0_tellsRuns_74 rfl (lv_at hl 3 rfl) ?_
    refine lv_iconst (v := (1 : Int32)) hx hb dX0_tellsRuns_75 (by decide) ?_
    refine lv_iadd hx hb dX0_tellsRuns_76 ?_
    refine lv_goto (tgt := 81) hx hb dX0_tellsRuns_77 (by decide) ?_
    exact xxk_tellsRuns_81  C0 hA hK7 x1 x2 x4 (x3 + (1 : Int32)) σ _ _ _ hw hW hS (lv_sub hl [0, 1, 2, 4] rfl)
set_option maxHeartbeats 4000000 in
set_option maxRecDepth 100000 in
theorem xxk_tellsRuns_48 {p : Program} {l : Launch} {e : Env} {s : State} {m : MethodId} {args : Array Value} {below : List Frame} {meth : Method} {c : Code} {D : va_G} {E : Nat → ClassId} {A : Nat → Prop} {ad sk : Nat → Nat} {Q : Int32 → xx_S → Prop} {K7 : Int32 → Int32 → Int32 → Int32 → xx_S → Prop}  (C0 : gg_C p s m args meth c RX0 cX0_tellsRuns 6 (some .int)) (hA : xx_A sk A s) (hK7 : ∀ (x1 : Int32) (x2 : Int32) (x3 : Int32) (x4 : Int32) (σ : xx_S) (H : Heap) (locs : List Loc) (ls : Array Slot), K7 x1 x2 x3 x4 σ → xx_W D E A ad sk σ s H → va_S A s.heap H locs → lv_has ls 6 [(0, .ref (ad 0)), (1, .int x1), (2, .int x2), (3, .int x3), (4, .int x4)] → W p l e xxr_tellsRuns s m args below meth c H locs 0 0 (MQ below (va_Qi Q (fun u t => xx_W D E A ad sk u t t.heap) A) args s 0 0 A) (F0 m 7 ls [])) :
    ∀ (x1 : Int32) (x2 : Int32) (x3 : Int32) (x4 : Int32) (s0 : Int32) (σ : xx_S) (H : Heap) (locs : List Loc) (ls : Array Slot), xxw_tellsRuns_48 Q K7 x1 x2 x3 x4 s0 σ → xx_W D E A ad sk σ s H → va_S A s.heap H locs → lv_has ls 6 [(0, .ref (ad 0)), (1, .int x1), (2, .int x2), (3, .int x3), (4, .int x4)] → W p l e xxr_tellsRuns s m args below meth c H locs 0 0 (MQ below (va_Qi Q (fun u t => xx_W D E A ad sk u t t.heap) A) args s 0 0 A) (F0 m 48 ls [.int s0]) := by
  obtain ⟨hx, hb, hml, hown, hts, hr, hlocks⟩ := id C0
  intro x1 x2 x3 x4 s0 σ H locs ls hw hW hS hl
  unfold xxw_tellsRuns_48 at hw
  refine lv_istore (lv' := [(5, .int s0), (0, .ref (ad 0)), (1, .int x1), (2, .int x2), (3, .int x3), (4, .int x4)]) hx hb dX0_tellsRuns_48 hl (by decide) rfl (fun ls hl => ?_)
  refine lv_iload hx hb dX0_tellsRuns_50 (lv_at hl 0 rfl) ?_
  refine lv_if_ne (tgt := 69) hx hb dX0_tellsRuns_52 (by decide) (fun c4 => ?_) (fun c4 => ?_)
  · have hw := hw.2 c4
    exact xxk_tellsRuns_69  C0 hA hK7 x1 x2 x3 x4 s0 σ _ _ _ hw hW hS (lv_sub hl [1, 2, 3, 4, 5, 0] rfl)
  · have hw := hw.1 c4
    refine lv_iload_n hx hb dX0_tellsRuns_55 rfl (lv_at hl 4 rfl) ?_
    refine lv_if_le (tgt := 69) hx hb dX0_tellsRuns_56 (by decide) (fun c3 => ?_) (fun c3 => ?_)
    · have hw := hw.1 c3
      exact xxk_tellsRuns_69  C0 hA hK7 x1 x2 x3 x4 s0 σ _ _ _ hw hW hS (lv_sub hl [1, 2, 3, 4, 5, 0] rfl)
    · have hw := hw.2 c3
      refine lv_aload_n hx hb dX0_tellsRuns_59 rfl (lv_at hl 1 rfl) ?_
      refine xx_getr hx hb hts hown hW 5 3 (by decide) q750 dX0_tellsRuns_60 ?_
      refine lv_iload_n hx hb dX0_tellsRuns_63 rfl (lv_at hl 3 rfl) ?_
      refine lv_iload_n hx hb dX0_tellsRuns_64 rfl (lv_at hl 4 rfl) ?_
      obtain ⟨hin, hw⟩ := hw
      refine xx_ast hx hb hW hS 3 24 (by decide) rfl hin dX0_tellsRuns_65 (fun H locs hW hS => ?_)
      obtain ⟨σ2, eσ2⟩ : ∃ z, z = xx_s σ 3 x2.toNatClampNeg x3 := ⟨_, rfl⟩
      rw [← eσ2] at hW
      have hw := hw σ2 eσ2
      refine lv_iinc (v := (x2 + (1 : Int32))) (lv' := [(2, .int (x2 + (1 : Int32))), (5, .int s0), (0, .ref (ad 0)), (1, .int x1), (3, .int x3), (4, .int x4)]) hx hb dX0_tellsRuns_66 hl (k := 3) rfl rfl (by decide) rfl (fun ls hl => ?_)
      exact xxk_tellsRuns_69  C0 hA hK7 x1 (x2 + (1 : Int32)) x3 x4 s0 σ2 _ _ _ hw hW hS (lv_sub hl [2, 3, 0, 4, 5, 1] rfl)
set_option maxHeartbeats 4000000 in
set_option maxRecDepth 100000 in
theorem xxk_tellsRuns_47 {p : Program} {l : Launch} {e : Env} {s : State} {m : MethodId} {args : Array Value} {below : List Frame} {meth : Method} {c : Code} {D : va_G} {E : Nat → ClassId} {A : Nat → Prop} {ad sk : Nat → Nat} {Q : Int32 → xx_S → Prop} {K7 : Int32 → Int32 → Int32 → Int32 → xx_S → Prop}  (C0 : gg_C p s m args meth c RX0 cX0_tellsRuns 6 (some .int)) (hA : xx_A sk A s) (hK7 : ∀ (x1 : Int32) (x2 : Int32) (x3 : Int32) (x4 : Int32) (σ : xx_S) (H : Heap) (locs : List Loc) (ls : Array Slot), K7 x1 x2 x3 x4 σ → xx_W D E A ad sk σ s H → va_S A s.heap H locs → lv_has ls 6 [(0, .ref (ad 0)), (1, .int x1), (2, .int x2), (3, .int x3), (4, .int x4)] → W p l e xxr_tellsRuns s m args below meth c H locs 0 0 (MQ below (va_Qi Q (fun u t => xx_W D E A ad sk u t t.heap) A) args s 0 0 A) (F0 m 7 ls [])) :
    ∀ (x1 : Int32) (x2 : Int32) (x3 : Int32) (x4 : Int32) (σ : xx_S) (H : Heap) (locs : List Loc) (ls : Array Slot), xxw_tellsRuns_47 Q K7 x1 x2 x3 x4 σ → xx_W D E A ad sk σ s H → va_S A s.heap H locs → lv_has ls 6 [(0, .ref (ad 0)), (1, .int x1), (2, .int x2), (3, .int x3), (4, .int x4)] → W p l e xxr_tellsRuns s m args below meth c H locs 0 0 (MQ below (va_Qi Q (fun u t => xx_W D E A ad sk u t t.heap) A) args s 0 0 A) (F0 m 47 ls []) := by
  obtain ⟨hx, hb, hml, hown, hts, hr, hlocks⟩ := id C0
  intro x1 x2 x3 x4 σ H locs ls hw hW hS hl
  unfold xxw_tellsRuns_47 at hw
  refine lv_iconst (v := (0 : Int32)) hx hb dX0_tellsRuns_47 (by decide) ?_
  exact xxk_tellsRuns_48  C0 hA hK7 x1 x2 x3 x4 (0 : Int32) σ _ _ _ hw hW hS (hl)
set_option maxHeartbeats 4000000 in
set_option maxRecDepth 100000 in
theorem xxk_tellsRuns_7 {p : Program} {l : Launch} {e : Env} {s : State} {m : MethodId} {args : Array Value} {below : List Frame} {meth : Method} {c : Code} {D : va_G} {E : Nat → ClassId} {A : Nat → Prop} {ad sk : Nat → Nat} {Q : Int32 → xx_S → Prop}   (C0 : gg_C p s m args meth c RX0 cX0_tellsRuns 6 (some .int)) (hA : xx_A sk A s) :
    ∀ n : Nat, ∀ (x1 : Int32) (x2 : Int32) (x3 : Int32) (x4 : Int32) (σ : xx_S) (H : Heap) (locs : List Loc) (ls : Array Slot), xxw_tellsRuns_7 Q n x1 x2 x3 x4 σ → xx_W D E A ad sk σ s H → va_S A s.heap H locs → lv_has ls 6 [(0, .ref (ad 0)), (1, .int x1), (2, .int x2), (3, .int x3), (4, .int x4)] → W p l e xxr_tellsRuns s m args below meth c H locs 0 0 (MQ below (va_Qi Q (fun u t => xx_W D E A ad sk u t t.heap) A) args s 0 0 A) (F0 m 7 ls []) := by
  obtain ⟨hx, hb, hml, hown, hts, hr, hlocks⟩ := id C0
  intro n
  induction n with
  | zero =>
    intro x1 x2 x3 x4 σ H locs ls hw hW hS hl
    exact absurd hw (by unfold xxw_tellsRuns_7; exact id)
  | succ n ih =>
    intro x1 x2 x3 x4 σ H locs ls hw hW hS hl
    unfold xxw_tellsRuns_7 at hw
    refine lv_iload hx hb dX0_tellsRuns_7 (lv_at hl 4 rfl) ?_
    refine lv_aload_n hx hb dX0_tellsRuns_9 rfl (lv_at hl 0 rfl) ?_
    refine xx_getr hx hb hts hown hW 3 1 (by decide) q748 dX0_tellsRuns_10 ?_
    refine lv_iload_n hx hb dX0_tellsRuns_13 rfl (lv_at hl 1 rfl) ?_
    obtain ⟨hin, hw⟩ := hw
    refine xx_ald hx hb hW 1 4 (by decide) rfl hin dX0_tellsRuns_14 ?_
    refine lv_icmp_gt (tgt := 88) hx hb dX0_tellsRuns_15 (by decide) (fun c9 => ?_) (fun c9 => ?_)
    · have hw := hw.1 c9
      refine lv_iload_n hx hb dX0_tellsRuns_88 rfl (lv_at hl 2 rfl) ?_
      exact gg_iret (xx_mv D E A ad sk) C0 hW hS hw dX0_tellsRuns_89
    · have hw := hw.2 c9
      refine lv_iload hx hb dX0_tellsRuns_18 (lv_at hl 4 rfl) ?_
      refine lv_aload_n hx hb dX0_tellsRuns_20 rfl (lv_at hl 0 rfl) ?_
      refine xx_getr hx hb hts hown hW 3 1 (by decide) q748 dX0_tellsRuns_21 ?_
      refine lv_iload_n hx hb dX0_tellsRuns_24 rfl (lv_at hl 1 rfl) ?_
      obtain ⟨hin, hw⟩ := hw
      refine xx_ald hx hb hW 1 4 (by decide) rfl hin dX0_tellsRuns_25 ?_
      refine lv_icmp_ge (tgt := 47) hx hb dX0_tellsRuns_26 (by decide) (fun c8 => ?_) (fun c8 => ?_)
      · have hw := hw.1 c8
        exact xxk_tellsRuns_47  C0 hA (fun y0 y1 y2 y3 τ H9 l9 s9 => ih y0 y1 y2 y3 τ H9 l9 s9) x1 x2 x3 x4 σ _ _ _ hw hW hS (hl)
      · have hw := hw.2 c8
        refine lv_aload_n hx hb dX0_tellsRuns_29 rfl (lv_at hl 0 rfl) ?_
        refine xx_getr hx hb hts hown hW 4 2 (by decide) q749 dX0_tellsRuns_30 ?_
        refine lv_iload_n hx hb dX0_tellsRuns_33 rfl (lv_at hl 1 rfl) ?_
        obtain ⟨hin, hw⟩ := hw
        refine xx_ald hx hb hW 2 4 (by decide) rfl hin dX0_tellsRuns_34 ?_
        refine lv_iload hx hb dX0_tellsRuns_35 (lv_at hl 4 rfl) ?_
        refine xx_SI ⟨hx, hb, hml, hown, hts⟩ hA (xxt_isIn l _ _ _ hw) (va_cwS 2 hts (lw_S q266 q267 q103 q268) rfl rfl rfl cd_X0_isIn.2 ⟨Nat.le_of_ble_eq_true rfl, Nat.le_of_ble_eq_true rfl⟩) hW hS rfl hl.1 rfl (Nat.le_of_ble_eq_true rfl) dX0_tellsRuns_37 (fun r6 σ5 H locs hw hW hS => ?_)
        obtain ⟨hz_r6, hw⟩ := hw
        refine lv_if_ne (tgt := 47) hx hb dX0_tellsRuns_40 (by decide) (fun c7 => ?_) (fun c7 => ?_)
        · have hw := hw.2 c7
          exact xxk_tellsRuns_47  C0 hA (fun y0 y1 y2 y3 τ H9 l9 s9 => ih y0 y1 y2 y3 τ H9 l9 s9) x1 x2 x3 x4 σ5 _ _ _ hw hW hS (hl)
        · have hw := hw.1 c7
          refine lv_iconst (v := (1 : Int32)) hx hb dX0_tellsRuns_43 (by decide) ?_
          refine lv_goto (tgt := 48) hx hb dX0_tellsRuns_44 (by decide) ?_
          exact xxk_tellsRuns_48  C0 hA (fun y0 y1 y2 y3 τ H9 l9 s9 => ih y0 y1 y2 y3 τ H9 l9 s9) x1 x2 x3 x4 (1 : Int32) σ5 _ _ _ hw hW hS (hl)
set_option maxHeartbeats 4000000 in
set_option maxRecDepth 100000 in
theorem xxt_tellsRuns (l : Launch) {D : va_G} {E : Nat → ClassId} {A : Nat → Prop} {ad sk : Nat → Nat}  (a1 : Int32) (σ : xx_S) {Q : Int32 → xx_S → Prop} (hw : xxw_tellsRuns a1 σ Q) :
    Met l yX0_tellsRuns (ws_ yX0_tellsRuns cX0_tellsRuns 6 (some .int)) xxr_tellsRuns (va_Pc [.ref (ad 0), .int a1] (fun U => xx_V D E A ad sk σ U U.heap)) (va_Qi Q (fun u t => xx_W D E A ad sk u t t.heap) A) 0 0 A := by
  refine gg_entry (W0 := fun s H => xx_V D E A ad sk σ s H) (by decide) (Nat.le_of_ble_eq_true rfl) ?_
  intro p e s m args below meth c C0 hV ls hl
  have C0 : gg_C p s m args meth c RX0 cX0_tellsRuns 6 (some .int) := C0
  obtain ⟨hx, hb, hml, hown, hts, hr, hlocks⟩ := id C0
  have hl : lv_has ls 6 [(0, .ref (ad 0)), (1, .int a1)] := hl
  have hS : va_S A s.heap s.heap [] := va_S.rf
  have hA : xx_A sk A s := hV.2
  have hW : xx_W D E A ad sk σ s s.heap := hV.1
  unfold xxw_tellsRuns at hw
  refine lv_iconst (v := (0 : Int32)) hx hb dX0_tellsRuns_0 (by decide) ?_
  refine lv_istore_n (lv' := [(2, .int (0 : Int32)), (0, .ref (ad 0)), (1, .int a1)]) hx hb dX0_tellsRuns_1 rfl hl (by decide) rfl (fun ls hl => ?_)
  refine lv_iconst (v := (0 : Int32)) hx hb dX0_tellsRuns_2 (by decide) ?_
  refine lv_istore_n (lv' := [(3, .int (0 : Int32)), (2, .int (0 : Int32)), (0, .ref (ad 0)), (1, .int a1)]) hx hb dX0_tellsRuns_3 rfl hl (by decide) rfl (fun ls hl => ?_)
  refine lv_iconst (v := (0 : Int32)) hx hb dX0_tellsRuns_4 (by decide) ?_
  refine lv_istore (lv' := [(4, .int (0 : Int32)), (3, .int (0 : Int32)), (2, .int (0 : Int32)), (0, .ref (ad 0)), (1, .int a1)]) hx hb dX0_tellsRuns_5 hl (by decide) rfl (fun ls hl => ?_)
  obtain ⟨n9, hw⟩ := hw
  exact xxk_tellsRuns_7  C0 hA  n9 a1 (0 : Int32) (0 : Int32) (0 : Int32) σ _ _ _ hw hW hS (lv_sub hl [3, 4, 2, 1, 0] rfl)
theorem cd_X0_greatest : yX0_greatest.cls = RX0 ∧ yX0_greatest.cls ≠ "java/lang/invoke/MethodHandle" ∧ yX0_greatest.cls ≠ "java/lang/invoke/VarHandle" ∧ (parseMethodDescriptor yX0_greatest.desc).map (fun d => d.parameters.length) = some 1 := by decide +kernel
/-! GleanersForGaps.greatest(I)I -/
def xxw_greatest_11  (Q : Int32 → xx_S → Prop)  : Nat → Int32 → Int32 → Int32 → xx_S → Prop
  | 0, _, _, _, _ => False
  | n + 1, x2, x3, x4, σ =>
    (((x2 ≤ x4) → Q x3 σ) ∧ (¬ (x2 ≤ x4) → vp_in x4 24 ∧ xxw_greatest_11 Q n x2 (if x3 < (xx_g σ 3 x4.toNatClampNeg) then (xx_g σ 3 x4.toNatClampNeg) else x3) (x4 + (1 : Int32)) σ))
def xxw_greatest  (a1 : Int32) (σ : xx_S) (Q : Int32 → xx_S → Prop) : Prop :=
    (xxw_tellsRuns a1 σ (fun r2 σ1 => ∃ k9, xxw_greatest_11 Q k9 r2 (0 : Int32) (0 : Int32) σ1))
abbrev xxr_greatest : Room := { frames := 2, cells := 0, slots := 0, locals := 46 }
set_option maxHeartbeats 4000000 in
set_option maxRecDepth 100000 in
theorem xxk_greatest_11 {p : Program} {l : Launch} {e : Env} {s : State} {m : MethodId} {args : Array Value} {below : List Frame} {meth : Method} {c : Code} {D : va_G} {E : Nat → ClassId} {A : Nat → Prop} {ad sk : Nat → Nat} {Q : Int32 → xx_S → Prop}   (C0 : gg_C p s m args meth c RX0 cX0_greatest 5 (some .int)) (hA : xx_A sk A s) :
    ∀ n : Nat, ∀ (x2 : Int32) (x3 : Int32) (x4 : Int32) (σ : xx_S) (H : Heap) (locs : List Loc) (ls : Array Slot), xxw_greatest_11 Q n x2 x3 x4 σ → xx_W D E A ad sk σ s H → va_S A s.heap H locs → lv_has ls 5 [(0, .ref (ad 0)), (2, .int x2), (3, .int x3), (4, .int x4)] → W p l e xxr_greatest s m args below meth c H locs 0 0 (MQ below (va_Qi Q (fun u t => xx_W D E A ad sk u t t.heap) A) args s 0 0 A) (F0 m 11 ls []) := by
  obtain ⟨hx, hb, hml, hown, hts, hr, hlocks⟩ := id C0
  intro n
  induction n with
  | zero =>
    intro x2 x3 x4 σ H locs ls hw hW hS hl
    exact absurd hw (by unfold xxw_greatest_11; exact id)
  | succ n ih =>
    intro x2 x3 x4 σ H locs ls hw hW hS hl
    unfold xxw_greatest_11 at hw
    refine lv_iload hx hb dX0_greatest_11 (lv_at hl 3 rfl) ?_
    refine lv_iload_n hx hb dX0_greatest_13 rfl (lv_at hl 1 rfl) ?_
    refine lv_icmp_ge (tgt := 35) hx hb dX0_greatest_14 (by decide) (fun c3 => ?_) (fun c3 => ?_)
    · have hw := hw.1 c3
      refine lv_iload_n hx hb dX0_greatest_35 rfl (lv_at hl 2 rfl) ?_
      exact gg_iret (xx_mv D E A ad sk) C0 hW hS hw dX0_greatest_36
    · have hw := hw.2 c3
      refine lv_iload_n hx hb dX0_greatest_17 rfl (lv_at hl 2 rfl) ?_
      refine lv_aload_n hx hb dX0_greatest_18 rfl (lv_at hl 0 rfl) ?_
      refine xx_getr hx hb hts hown hW 5 3 (by decide) q750 dX0_greatest_19 ?_
      refine lv_iload hx hb dX0_greatest_22 (lv_at hl 3 rfl) ?_
      obtain ⟨hin, hw⟩ := hw
      refine xx_ald hx hb hW 3 24 (by decide) rfl hin dX0_greatest_24 ?_
      refine va_mmax hx hb (hml.trans hl.1.symm) hown (hts _ q273) (hts _ q274) (hts _ q113) (hts _ q275) (Nat.le_of_ble_eq_true rfl) (Nat.le_of_ble_eq_true rfl) (Nat.zero_le _) (Nat.zero_le _) dX0_greatest_25 ?_
      refine lv_istore_n (lv' := [(3, .int (if x3 < (xx_g σ 3 x4.toNatClampNeg) then (xx_g σ 3 x4.toNatClampNeg) else x3)), (0, .ref (ad 0)), (2, .int x2), (4, .int x4)]) hx hb dX0_greatest_28 rfl hl (by decide) rfl (fun ls hl => ?_)
      refine lv_iinc (v := (x4 + (1 : Int32))) (lv' := [(4, .int (x4 + (1 : Int32))), (3, .int (if x3 < (xx_g σ 3 x4.toNatClampNeg) then (xx_g σ 3 x4.toNatClampNeg) else x3)), (0, .ref (ad 0)), (2, .int x2)]) hx hb dX0_greatest_29 hl (k := 3) rfl rfl (by decide) rfl (fun ls hl => ?_)
      refine lv_goto (tgt := 11) hx hb dX0_greatest_32 (by decide) ?_
      exact ih x2 (if x3 < (xx_g σ 3 x4.toNatClampNeg) then (xx_g σ 3 x4.toNatClampNeg) else x3) (x4 + (1 : Int32)) σ _ _ _ hw hW hS (lv_sub hl [2, 3, 1, 0] rfl)
set_option maxHeartbeats 4000000 in
set_option maxRecDepth 100000 in
theorem xxt_greatest (l : Launch) {D : va_G} {E : Nat → ClassId} {A : Nat → Prop} {ad sk : Nat → Nat}  (a1 : Int32) (σ : xx_S) {Q : Int32 → xx_S → Prop} (hw : xxw_greatest a1 σ Q) :
    Met l yX0_greatest (ws_ yX0_greatest cX0_greatest 5 (some .int)) xxr_greatest (va_Pc [.ref (ad 0), .int a1] (fun U => xx_V D E A ad sk σ U U.heap)) (va_Qi Q (fun u t => xx_W D E A ad sk u t t.heap) A) 0 0 A := by
  refine gg_entry (W0 := fun s H => xx_V D E A ad sk σ s H) (by decide) (Nat.le_of_ble_eq_true rfl) ?_
  intro p e s m args below meth c C0 hV ls hl
  have C0 : gg_C p s m args meth c RX0 cX0_greatest 5 (some .int) := C0
  obtain ⟨hx, hb, hml, hown, hts, hr, hlocks⟩ := id C0
  have hl : lv_has ls 5 [(0, .ref (ad 0)), (1, .int a1)] := hl
  have hS : va_S A s.heap s.heap [] := va_S.rf
  have hA : xx_A sk A s := hV.2
  have hW : xx_W D E A ad sk σ s s.heap := hV.1
  unfold xxw_greatest at hw
  refine lv_aload_n hx hb dX0_greatest_0 rfl (lv_at hl 0 rfl) ?_
  refine lv_iload_n hx hb dX0_greatest_1 rfl (lv_at hl 1 rfl) ?_
  refine xx_VI ⟨hx, hb, hml, hown, hts⟩ hA (xxt_tellsRuns l _ _ hw) (cwV 1 hts (lw_V q262 q264 qs5 q103 q265) rfl rfl rfl cd_X0_tellsRuns ⟨Nat.le_of_ble_eq_true rfl, Nat.le_of_ble_eq_true rfl⟩) hW (xx_recv hW) hS rfl hl.1 rfl (Nat.le_of_ble_eq_true rfl) dX0_greatest_2 (fun r2 σ1 H locs hw hW hS => ?_)
  refine lv_istore_n (lv' := [(2, .int r2), (0, .ref (ad 0)), (1, .int a1)]) hx hb dX0_greatest_5 rfl hl (by decide) rfl (fun ls hl => ?_)
  refine lv_iconst (v := (0 : Int32)) hx hb dX0_greatest_6 (by decide) ?_
  refine lv_istore_n (lv' := [(3, .int (0 : Int32)), (2, .int r2), (0, .ref (ad 0)), (1, .int a1)]) hx hb dX0_greatest_7 rfl hl (by decide) rfl (fun ls hl => ?_)
  refine lv_iconst (v := (0 : Int32)) hx hb dX0_greatest_8 (by decide) ?_
  refine lv_istore (lv' := [(4, .int (0 : Int32)), (3, .int (0 : Int32)), (2, .int r2), (0, .ref (ad 0)), (1, .int a1)]) hx hb dX0_greatest_9 hl (by decide) rfl (fun ls hl => ?_)
  obtain ⟨n9, hw⟩ := hw
  exact xxk_greatest_11  C0 hA  n9 r2 (0 : Int32) (0 : Int32) σ1 _ _ _ hw hW hS (lv_sub hl [3, 2, 1, 0] rfl)
theorem cd_X0_runsOf : yX0_runsOf.cls = RX0 ∧ yX0_runsOf.cls ≠ "java/lang/invoke/MethodHandle" ∧ yX0_runsOf.cls ≠ "java/lang/invoke/VarHandle" ∧ (parseMethodDescriptor yX0_runsOf.desc).map (fun d => d.parameters.length) = some 1 := by decide +kernel
/-! GleanersForGaps.runsOf(I)I -/
def xxw_runsOf  (a1 : Int32) (σ : xx_S) (Q : Int32 → xx_S → Prop) : Prop :=
    (xxw_tellsRuns a1 σ (fun r2 σ1 => Q r2 σ1))
abbrev xxr_runsOf : Room := { frames := 2, cells := 0, slots := 0, locals := 46 }
set_option maxHeartbeats 4000000 in
set_option maxRecDepth 100000 in
theorem xxt_runsOf (l : Launch) {D : va_G} {E : Nat → ClassId} {A : Nat → Prop} {ad sk : Nat → Nat}  (a1 : Int32) (σ : xx_S) {Q : Int32 → xx_S → Prop} (hw : xxw_runsOf a1 σ Q) :
    Met l yX0_runsOf (ws_ yX0_runsOf cX0_runsOf 2 (some .int)) xxr_runsOf (va_Pc [.ref (ad 0), .int a1] (fun U => xx_V D E A ad sk σ U U.heap)) (va_Qi Q (fun u t => xx_W D E A ad sk u t t.heap) A) 0 0 A := by
  refine gg_entry (W0 := fun s H => xx_V D E A ad sk σ s H) (by decide) (Nat.le_of_ble_eq_true rfl) ?_
  intro p e s m args below meth c C0 hV ls hl
  have C0 : gg_C p s m args meth c RX0 cX0_runsOf 2 (some .int) := C0
  obtain ⟨hx, hb, hml, hown, hts, hr, hlocks⟩ := id C0
  have hl : lv_has ls 2 [(0, .ref (ad 0)), (1, .int a1)] := hl
  have hS : va_S A s.heap s.heap [] := va_S.rf
  have hA : xx_A sk A s := hV.2
  have hW : xx_W D E A ad sk σ s s.heap := hV.1
  unfold xxw_runsOf at hw
  refine lv_aload_n hx hb dX0_runsOf_0 rfl (lv_at hl 0 rfl) ?_
  refine lv_iload_n hx hb dX0_runsOf_1 rfl (lv_at hl 1 rfl) ?_
  refine xx_VI ⟨hx, hb, hml, hown, hts⟩ hA (xxt_tellsRuns l _ _ hw) (cwV 1 hts (lw_V q262 q264 qs5 q103 q265) rfl rfl rfl cd_X0_tellsRuns ⟨Nat.le_of_ble_eq_true rfl, Nat.le_of_ble_eq_true rfl⟩) hW (xx_recv hW) hS rfl hl.1 rfl (Nat.le_of_ble_eq_true rfl) dX0_runsOf_2 (fun r2 σ1 H locs hw hW hS => ?_)
  exact gg_iret (xx_mv D E A ad sk) C0 hW hS hw dX0_runsOf_5
theorem cd_X0_shakesOf : yX0_shakesOf.cls = RX0 ∧ yX0_shakesOf.cls ≠ "java/lang/invoke/MethodHandle" ∧ yX0_shakesOf.cls ≠ "java/lang/invoke/VarHandle" ∧ (parseMethodDescriptor yX0_shakesOf.desc).map (fun d => d.parameters.length) = some 1 := by decide +kernel
/-! GleanersForGaps.shakesOf(I)I -/
def xxw_shakesOf  (a1 : Int32) (σ : xx_S) (Q : Int32 → xx_S → Prop) : Prop :=
    (xxw_looksAt (-1 : Int32) σ (fun σ1 => (xxw_gapsOf a1 σ1 (fun r3 σ2 => (xxw_says (2 : Int32) r3 (0 : Int32) a1 σ2 (fun r5 σ4 => (xxw_held r5 (0 : Int32) (9 : Int32) σ4 (fun r7 σ6 => Q r7 σ6))))))))
abbrev xxr_shakesOf : Room := { frames := 203, cells := 0, slots := 0, locals := 6024 }
set_option maxHeartbeats 4000000 in
set_option maxRecDepth 100000 in
theorem xxt_shakesOf (l : Launch) {D : va_G} {E : Nat → ClassId} {A : Nat → Prop} {ad sk : Nat → Nat}  (a1 : Int32) (σ : xx_S) {Q : Int32 → xx_S → Prop} (hw : xxw_shakesOf a1 σ Q) :
    Met l yX0_shakesOf (ws_ yX0_shakesOf cX0_shakesOf 2 (some .int)) xxr_shakesOf (va_Pc [.ref (ad 0), .int a1] (fun U => xx_V D E A ad sk σ U U.heap)) (va_Qi Q (fun u t => xx_W D E A ad sk u t t.heap) A) 0 0 A := by
  refine gg_entry (W0 := fun s H => xx_V D E A ad sk σ s H) (by decide) (Nat.le_of_ble_eq_true rfl) ?_
  intro p e s m args below meth c C0 hV ls hl
  have C0 : gg_C p s m args meth c RX0 cX0_shakesOf 2 (some .int) := C0
  obtain ⟨hx, hb, hml, hown, hts, hr, hlocks⟩ := id C0
  have hl : lv_has ls 2 [(0, .ref (ad 0)), (1, .int a1)] := hl
  have hS : va_S A s.heap s.heap [] := va_S.rf
  have hA : xx_A sk A s := hV.2
  have hW : xx_W D E A ad sk σ s s.heap := hV.1
  unfold xxw_shakesOf at hw
  refine lv_aload_n hx hb dX0_shakesOf_0 rfl (lv_at hl 0 rfl) ?_
  refine lv_iconst (v := (-1 : Int32)) hx hb dX0_shakesOf_1 (by decide) ?_
  refine xx_VV ⟨hx, hb, hml, hown, hts⟩ hA (xxt_looksAt l _ _ hw) (cwV 1 hts (lw_V q280 q282 qs8 q103 q283) rfl rfl rfl cd_X0_looksAt ⟨Nat.le_of_ble_eq_true rfl, Nat.le_of_ble_eq_true rfl⟩) hW (xx_recv hW) hS rfl hl.1 rfl (Nat.le_of_ble_eq_true rfl) dX0_shakesOf_2 (fun σ1 H locs hw hW hS => ?_)
  refine lv_aload_n hx hb dX0_shakesOf_5 rfl (lv_at hl 0 rfl) ?_
  refine lv_iconst (v := (2 : Int32)) hx hb dX0_shakesOf_6 (by decide) ?_
  refine lv_aload_n hx hb dX0_shakesOf_7 rfl (lv_at hl 0 rfl) ?_
  refine lv_iload_n hx hb dX0_shakesOf_8 rfl (lv_at hl 1 rfl) ?_
  refine xx_VI ⟨hx, hb, hml, hown, hts⟩ hA (xxt_gapsOf l _ _ hw) (cwV 1 hts (lw_V q225 q227 qs0 q103 q229) rfl rfl rfl cd_X0_gapsOf ⟨Nat.le_of_ble_eq_true rfl, Nat.le_of_ble_eq_true rfl⟩) hW (xx_recv hW) hS rfl hl.1 rfl (Nat.le_of_ble_eq_true rfl) dX0_shakesOf_9 (fun r3 σ2 H locs hw hW hS => ?_)
  refine lv_iconst (v := (0 : Int32)) hx hb dX0_shakesOf_12 (by decide) ?_
  refine lv_iload_n hx hb dX0_shakesOf_13 rfl (lv_at hl 1 rfl) ?_
  refine xx_VI ⟨hx, hb, hml, hown, hts⟩ hA (xxt_says l _ _ _ _ _ hw) (cwV 4 hts (lw_V q284 q286 qs9 q103 q287) rfl rfl rfl cd_X0_says ⟨Nat.le_of_ble_eq_true rfl, Nat.le_of_ble_eq_true rfl⟩) hW (xx_recv hW) hS rfl hl.1 rfl (Nat.le_of_ble_eq_true rfl) dX0_shakesOf_14 (fun r5 σ4 H locs hw hW hS => ?_)
  refine lv_iconst (v := (0 : Int32)) hx hb dX0_shakesOf_17 (by decide) ?_
  refine lv_bipush (v := (9 : Int32)) hx hb dX0_shakesOf_18 (by decide) ?_
  refine xx_SI ⟨hx, hb, hml, hown, hts⟩ hA (xxt_held l _ _ _ _ hw) (va_cwS 3 hts (lw_S q305 q306 q103 q307) rfl rfl rfl cd_X0_held.2 ⟨Nat.le_of_ble_eq_true rfl, Nat.le_of_ble_eq_true rfl⟩) hW hS rfl hl.1 rfl (Nat.le_of_ble_eq_true rfl) dX0_shakesOf_20 (fun r7 σ6 H locs hw hW hS => ?_)
  exact gg_iret (xx_mv D E A ad sk) C0 hW hS hw dX0_shakesOf_23
theorem cd_X0_toldRow : yX0_toldRow.cls = RX0 ∧ yX0_toldRow.cls ≠ "java/lang/invoke/MethodHandle" ∧ yX0_toldRow.cls ≠ "java/lang/invoke/VarHandle" ∧ (parseMethodDescriptor yX0_toldRow.desc).map (fun d => d.parameters.length) = some 2 := by decide +kernel
/-! GleanersForGaps.toldRow(II)I -/
def xxw_toldRow  (a1 : Int32) (a2 : Int32) (σ : xx_S) (Q : Int32 → xx_S → Prop) : Prop :=
    ((a2 = (5 : Int32) → vp_in a1 4 ∧ Q (xx_g σ 1 a1.toNatClampNeg) σ) ∧ (a2 = (6 : Int32) → vp_in a1 4 ∧ Q (xx_g σ 2 a1.toNatClampNeg) σ) ∧ (a2 = (7 : Int32) → (xxw_gapsOf a1 σ (fun r4 σ3 => Q r4 σ3))) ∧ (a2 = (8 : Int32) → (xxw_runsOf a1 σ (fun r7 σ6 => Q r7 σ6))) ∧ (a2 = (9 : Int32) → (xxw_greatest a1 σ (fun r10 σ9 => Q r10 σ9))) ∧ (¬ a2 = (5 : Int32) ∧ ¬ a2 = (6 : Int32) ∧ ¬ a2 = (7 : Int32) ∧ ¬ a2 = (8 : Int32) ∧ ¬ a2 = (9 : Int32) → (xxw_shakesOf a1 σ (fun r13 σ12 => Q r13 σ12))))
abbrev xxr_toldRow : Room := { frames := 204, cells := 0, slots := 0, locals := 6045 }
set_option maxHeartbeats 4000000 in
set_option maxRecDepth 100000 in
theorem xxt_toldRow (l : Launch) {D : va_G} {E : Nat → ClassId} {A : Nat → Prop} {ad sk : Nat → Nat}  (a1 : Int32) (a2 : Int32) (σ : xx_S) {Q : Int32 → xx_S → Prop} (hw : xxw_toldRow a1 a2 σ Q) :
    Met l yX0_toldRow (ws_ yX0_toldRow cX0_toldRow 3 (some .int)) xxr_toldRow (va_Pc [.ref (ad 0), .int a1, .int a2] (fun U => xx_V D E A ad sk σ U U.heap)) (va_Qi Q (fun u t => xx_W D E A ad sk u t t.heap) A) 0 0 A := by
  refine gg_entry (W0 := fun s H => xx_V D E A ad sk σ s H) (by decide) (Nat.le_of_ble_eq_true rfl) ?_
  intro p e s m args below meth c C0 hV ls hl
  have C0 : gg_C p s m args meth c RX0 cX0_toldRow 3 (some .int) := C0
  obtain ⟨hx, hb, hml, hown, hts, hr, hlocks⟩ := id C0
  have hl : lv_has ls 3 [(0, .ref (ad 0)), (1, .int a1), (2, .int a2)] := hl
  have hS : va_S A s.heap s.heap [] := va_S.rf
  have hA : xx_A sk A s := hV.2
  have hW : xx_W D E A ad sk σ s s.heap := hV.1
  unfold xxw_toldRow at hw
  refine lv_iload_n hx hb dX0_toldRow_0 rfl (lv_at hl 2 rfl) ?_
  by_cases e1 : a2 = (5 : Int32)
  · obtain ⟨hw, -⟩ := hw
    have hw := hw e1
    refine lv_tableIn (off := 35) (tgt := 36) hx hb dX0_toldRow_1 (by rw [e1]; decide) (by rw [e1]; decide) (by rw [e1]; rfl) (by decide) ?_
    refine lv_aload_n hx hb dX0_toldRow_36 rfl (lv_at hl 0 rfl) ?_
    refine xx_getr hx hb hts hown hW 3 1 (by decide) q748 dX0_toldRow_37 ?_
    refine lv_iload_n hx hb dX0_toldRow_40 rfl (lv_at hl 1 rfl) ?_
    obtain ⟨hin, hw⟩ := hw
    refine xx_ald hx hb hW 1 4 (by decide) rfl hin dX0_toldRow_41 ?_
    exact gg_iret (xx_mv D E A ad sk) C0 hW hS hw dX0_toldRow_42
  obtain ⟨-, hw⟩ := hw
  by_cases e2 : a2 = (6 : Int32)
  · obtain ⟨hw, -⟩ := hw
    have hw := hw e2
    refine lv_tableIn (off := 42) (tgt := 43) hx hb dX0_toldRow_1 (by rw [e2]; decide) (by rw [e2]; decide) (by rw [e2]; rfl) (by decide) ?_
    refine lv_aload_n hx hb dX0_toldRow_43 rfl (lv_at hl 0 rfl) ?_
    refine xx_getr hx hb hts hown hW 4 2 (by decide) q749 dX0_toldRow_44 ?_
    refine lv_iload_n hx hb dX0_toldRow_47 rfl (lv_at hl 1 rfl) ?_
    obtain ⟨hin, hw⟩ := hw
    refine xx_ald hx hb hW 2 4 (by decide) rfl hin dX0_toldRow_48 ?_
    exact gg_iret (xx_mv D E A ad sk) C0 hW hS hw dX0_toldRow_49
  obtain ⟨-, hw⟩ := hw
  by_cases e5 : a2 = (7 : Int32)
  · obtain ⟨hw, -⟩ := hw
    have hw := hw e5
    refine lv_tableIn (off := 49) (tgt := 50) hx hb dX0_toldRow_1 (by rw [e5]; decide) (by rw [e5]; decide) (by rw [e5]; rfl) (by decide) ?_
    refine lv_aload_n hx hb dX0_toldRow_50 rfl (lv_at hl 0 rfl) ?_
    refine lv_iload_n hx hb dX0_toldRow_51 rfl (lv_at hl 1 rfl) ?_
    refine xx_VI ⟨hx, hb, hml, hown, hts⟩ hA (xxt_gapsOf l _ _ hw) (cwV 1 hts (lw_V q225 q227 qs0 q103 q229) rfl rfl rfl cd_X0_gapsOf ⟨Nat.le_of_ble_eq_true rfl, Nat.le_of_ble_eq_true rfl⟩) hW (xx_recv hW) hS rfl hl.1 rfl (Nat.le_of_ble_eq_true rfl) dX0_toldRow_52 (fun r4 σ3 H locs hw hW hS => ?_)
    exact gg_iret (xx_mv D E A ad sk) C0 hW hS hw dX0_toldRow_55
  obtain ⟨-, hw⟩ := hw
  by_cases e8 : a2 = (8 : Int32)
  · obtain ⟨hw, -⟩ := hw
    have hw := hw e8
    refine lv_tableIn (off := 55) (tgt := 56) hx hb dX0_toldRow_1 (by rw [e8]; decide) (by rw [e8]; decide) (by rw [e8]; rfl) (by decide) ?_
    refine lv_aload_n hx hb dX0_toldRow_56 rfl (lv_at hl 0 rfl) ?_
    refine lv_iload_n hx hb dX0_toldRow_57 rfl (lv_at hl 1 rfl) ?_
    refine xx_VI ⟨hx, hb, hml, hown, hts⟩ hA (xxt_runsOf l _ _ hw) (cwV 1 hts (lw_V q258 q260 qs4 q103 q261) rfl rfl rfl cd_X0_runsOf ⟨Nat.le_of_ble_eq_true rfl, Nat.le_of_ble_eq_true rfl⟩) hW (xx_recv hW) hS rfl hl.1 rfl (Nat.le_of_ble_eq_true rfl) dX0_toldRow_58 (fun r7 σ6 H locs hw hW hS => ?_)
    exact gg_iret (xx_mv D E A ad sk) C0 hW hS hw dX0_toldRow_61
  obtain ⟨-, hw⟩ := hw
  by_cases e11 : a2 = (9 : Int32)
  · obtain ⟨hw, -⟩ := hw
    have hw := hw e11
    refine lv_tableIn (off := 61) (tgt := 62) hx hb dX0_toldRow_1 (by rw [e11]; decide) (by rw [e11]; decide) (by rw [e11]; rfl) (by decide) ?_
    refine lv_aload_n hx hb dX0_toldRow_62 rfl (lv_at hl 0 rfl) ?_
    refine lv_iload_n hx hb dX0_toldRow_63 rfl (lv_at hl 1 rfl) ?_
    refine xx_VI ⟨hx, hb, hml, hown, hts⟩ hA (xxt_greatest l _ _ hw) (cwV 1 hts (lw_V q269 q271 qs6 q103 q272) rfl rfl rfl cd_X0_greatest ⟨Nat.le_of_ble_eq_true rfl, Nat.le_of_ble_eq_true rfl⟩) hW (xx_recv hW) hS rfl hl.1 rfl (Nat.le_of_ble_eq_true rfl) dX0_toldRow_64 (fun r10 σ9 H locs hw hW hS => ?_)
    exact gg_iret (xx_mv D E A ad sk) C0 hW hS hw dX0_toldRow_67
  obtain ⟨-, hw⟩ := hw
  have hw := hw ⟨e1, e2, e5, e8, e11⟩
  refine lv_tableOut (tgt := 68) hx hb dX0_toldRow_1 (gg_swout (lo := 5) (hi := 9) (by decide) (by decide) (fun v h1 h2 => ?_)) (by decide) ?_
  · have hv : v = 5 ∨ v = 6 ∨ v = 7 ∨ v = 8 ∨ v = 9 := by omega
    rcases hv with h | h | h | h | h <;> subst h
    · exact e1
    · exact e2
    · exact e5
    · exact e8
    · exact e11
  refine lv_aload_n hx hb dX0_toldRow_68 rfl (lv_at hl 0 rfl) ?_
  refine lv_iload_n hx hb dX0_toldRow_69 rfl (lv_at hl 1 rfl) ?_
  refine xx_VI ⟨hx, hb, hml, hown, hts⟩ hA (xxt_shakesOf l _ _ hw) (cwV 1 hts (lw_V q276 q278 qs7 q103 q279) rfl rfl rfl cd_X0_shakesOf ⟨Nat.le_of_ble_eq_true rfl, Nat.le_of_ble_eq_true rfl⟩) hW (xx_recv hW) hS rfl hl.1 rfl (Nat.le_of_ble_eq_true rfl) dX0_toldRow_70 (fun r13 σ12 H locs hw hW hS => ?_)
  exact gg_iret (xx_mv D E A ad sk) C0 hW hS hw dX0_toldRow_73
theorem cd_X0_told : yX0_told.cls = RX0 ∧ yX0_told.cls ≠ "java/lang/invoke/MethodHandle" ∧ yX0_told.cls ≠ "java/lang/invoke/VarHandle" ∧ (parseMethodDescriptor yX0_told.desc).map (fun d => d.parameters.length) = some 2 := by decide +kernel
/-! GleanersForGaps.told(II)I -/
def xxw_told  (a1 : Int32) (a2 : Int32) (σ : xx_S) (Q : Int32 → xx_S → Prop) : Prop :=
    (((a2 = 0) → Q (xx_g σ 0 2) σ) ∧ (¬ (a2 = 0) → (xxw_in ((a2).toInt64) (5 : Int64) (10 : Int64) σ (fun r2 σ1 => (((r2 = 0) → (xxw_in ((a2).toInt64) (1 : Int64) (4 : Int64) σ1 (fun r4 σ3 => (((r4 = 0) → Q (-2 : Int32) σ3) ∧ (¬ (r4 = 0) → (xxw_isOne a1 σ3 (fun r6 σ5 => (((r6 = 0) → Q (-2 : Int32) σ5) ∧ (¬ (r6 = 0) → (xxw_toldOf a1 a2 σ5 (fun r8 σ7 => Q r8 σ7))))))))))) ∧ (¬ (r2 = 0) → (xxw_isRow a1 σ1 (fun r12 σ11 => (((r12 = 0) → Q (-2 : Int32) σ11) ∧ (¬ (r12 = 0) → (xxw_toldRow a1 a2 σ11 (fun r14 σ13 => Q r14 σ13))))))))))))
abbrev xxr_told : Room := { frames := 205, cells := 0, slots := 0, locals := 6067 }
set_option maxHeartbeats 4000000 in
set_option maxRecDepth 100000 in
theorem xxt_told (l : Launch) {D : va_G} {E : Nat → ClassId} {A : Nat → Prop} {ad sk : Nat → Nat}  (a1 : Int32) (a2 : Int32) (σ : xx_S) {Q : Int32 → xx_S → Prop} (hw : xxw_told a1 a2 σ Q) :
    Met l yX0_told (ws_ yX0_told cX0_told 3 (some .int)) xxr_told (va_Pc [.ref (ad 0), .int a1, .int a2] (fun U => xx_V D E A ad sk σ U U.heap)) (va_Qi Q (fun u t => xx_W D E A ad sk u t t.heap) A) 0 0 A := by
  refine gg_entry (W0 := fun s H => xx_V D E A ad sk σ s H) (by decide) (Nat.le_of_ble_eq_true rfl) ?_
  intro p e s m args below meth c C0 hV ls hl
  have C0 : gg_C p s m args meth c RX0 cX0_told 3 (some .int) := C0
  obtain ⟨hx, hb, hml, hown, hts, hr, hlocks⟩ := id C0
  have hl : lv_has ls 3 [(0, .ref (ad 0)), (1, .int a1), (2, .int a2)] := hl
  have hS : va_S A s.heap s.heap [] := va_S.rf
  have hA : xx_A sk A s := hV.2
  have hW : xx_W D E A ad sk σ s s.heap := hV.1
  unfold xxw_told at hw
  refine lv_iload_n hx hb dX0_told_0 rfl (lv_at hl 2 rfl) ?_
  refine lv_if_ne (tgt := 9) hx hb dX0_told_1 (by decide) (fun c17 => ?_) (fun c17 => ?_)
  · have hw := hw.2 c17
    refine lv_iload_n hx hb dX0_told_9 rfl (lv_at hl 2 rfl) ?_
    refine lv_i2l (v := (a2).toInt64) hx hb dX0_told_10 rfl ?_
    refine lv_ldc2 (own := RX0) (v := (5 : Int64)) hx hb hown (hts _ q138) dX0_told_11 ?_
    refine lv_ldc2 (own := RX0) (v := (10 : Int64)) hx hb hown (hts _ q253) dX0_told_14 ?_
    refine xx_SI ⟨hx, hb, hml, hown, hts⟩ hA (xxt_in l _ _ _ _ hw) (va_cwS 3 hts (lw_S q139 q140 q103 q141) rfl rfl rfl cd_X0_in.2 ⟨Nat.le_of_ble_eq_true rfl, Nat.le_of_ble_eq_true rfl⟩) hW hS rfl hl.1 rfl (Nat.le_of_ble_eq_true rfl) dX0_told_17 (fun r2 σ1 H locs hw hW hS => ?_)
    obtain ⟨hz_r2, hw⟩ := hw
    refine lv_if_eq (tgt := 42) hx hb dX0_told_20 (by decide) (fun c16 => ?_) (fun c16 => ?_)
    · have hw := hw.1 c16
      refine lv_iload_n hx hb dX0_told_42 rfl (lv_at hl 2 rfl) ?_
      refine lv_i2l (v := (a2).toInt64) hx hb dX0_told_43 rfl ?_
      refine lv_lconst (v := (1 : Int64)) hx hb dX0_told_44 (by decide) ?_
      refine lv_ldc2 (own := RX0) (v := (4 : Int64)) hx hb hown (hts _ q311) dX0_told_45 ?_
      refine xx_SI ⟨hx, hb, hml, hown, hts⟩ hA (xxt_in l _ _ _ _ hw) (va_cwS 3 hts (lw_S q139 q140 q103 q141) rfl rfl rfl cd_X0_in.2 ⟨Nat.le_of_ble_eq_true rfl, Nat.le_of_ble_eq_true rfl⟩) hW hS rfl hl.1 rfl (Nat.le_of_ble_eq_true rfl) dX0_told_48 (fun r4 σ3 H locs hw hW hS => ?_)
      obtain ⟨hz_r4, hw⟩ := hw
      refine lv_if_eq (tgt := 71) hx hb dX0_told_51 (by decide) (fun c10 => ?_) (fun c10 => ?_)
      · have hw := hw.1 c10
        refine lv_bipush (v := (-2 : Int32)) hx hb dX0_told_71 (by decide) ?_
        exact gg_iret (xx_mv D E A ad sk) C0 hW hS hw dX0_told_73
      · have hw := hw.2 c10
        refine lv_aload_n hx hb dX0_told_54 rfl (lv_at hl 0 rfl) ?_
        refine lv_iload_n hx hb dX0_told_55 rfl (lv_at hl 1 rfl) ?_
        refine xx_VI ⟨hx, hb, hml, hown, hts⟩ hA (xxt_isOne l _ _ hw) (cwV 1 hts (lw_V q245 q247 qs2 q103 q248) rfl rfl rfl cd_X0_isOne ⟨Nat.le_of_ble_eq_true rfl, Nat.le_of_ble_eq_true rfl⟩) hW (xx_recv hW) hS rfl hl.1 rfl (Nat.le_of_ble_eq_true rfl) dX0_told_56 (fun r6 σ5 H locs hw hW hS => ?_)
        obtain ⟨hz_r6, hw⟩ := hw
        refine lv_if_eq (tgt := 71) hx hb dX0_told_59 (by decide) (fun c9 => ?_) (fun c9 => ?_)
        · have hw := hw.1 c9
          refine lv_bipush (v := (-2 : Int32)) hx hb dX0_told_71 (by decide) ?_
          exact gg_iret (xx_mv D E A ad sk) C0 hW hS hw dX0_told_73
        · have hw := hw.2 c9
          refine lv_aload_n hx hb dX0_told_62 rfl (lv_at hl 0 rfl) ?_
          refine lv_iload_n hx hb dX0_told_63 rfl (lv_at hl 1 rfl) ?_
          refine lv_iload_n hx hb dX0_told_64 rfl (lv_at hl 2 rfl) ?_
          refine xx_VI ⟨hx, hb, hml, hown, hts⟩ hA (xxt_toldOf l _ _ _ hw) (cwV 2 hts (lw_V q312 q314 qs10 q103 q315) rfl rfl rfl cd_X0_toldOf ⟨Nat.le_of_ble_eq_true rfl, Nat.le_of_ble_eq_true rfl⟩) hW (xx_recv hW) hS rfl hl.1 rfl (Nat.le_of_ble_eq_true rfl) dX0_told_65 (fun r8 σ7 H locs hw hW hS => ?_)
          refine lv_goto (tgt := 73) hx hb dX0_told_68 (by decide) ?_
          exact gg_iret (xx_mv D E A ad sk) C0 hW hS hw dX0_told_73
    · have hw := hw.2 c16
      refine lv_iload_n hx hb dX0_told_23 rfl (lv_at hl 1 rfl) ?_
      refine xx_SI ⟨hx, hb, hml, hown, hts⟩ hA (xxt_isRow l _ _ hw) (va_cwS 1 hts (lw_S q220 q221 q103 q222) rfl rfl rfl cd_X0_isRow.2 ⟨Nat.le_of_ble_eq_true rfl, Nat.le_of_ble_eq_true rfl⟩) hW hS rfl hl.1 rfl (Nat.le_of_ble_eq_true rfl) dX0_told_24 (fun r12 σ11 H locs hw hW hS => ?_)
      obtain ⟨hz_r12, hw⟩ := hw
      refine lv_if_eq (tgt := 39) hx hb dX0_told_27 (by decide) (fun c15 => ?_) (fun c15 => ?_)
      · have hw := hw.1 c15
        refine lv_bipush (v := (-2 : Int32)) hx hb dX0_told_39 (by decide) ?_
        exact gg_iret (xx_mv D E A ad sk) C0 hW hS hw dX0_told_41
      · have hw := hw.2 c15
        refine lv_aload_n hx hb dX0_told_30 rfl (lv_at hl 0 rfl) ?_
        refine lv_iload_n hx hb dX0_told_31 rfl (lv_at hl 1 rfl) ?_
        refine lv_iload_n hx hb dX0_told_32 rfl (lv_at hl 2 rfl) ?_
        refine xx_VI ⟨hx, hb, hml, hown, hts⟩ hA (xxt_toldRow l _ _ _ hw) (cwV 2 hts (lw_V q254 q256 qs3 q103 q257) rfl rfl rfl cd_X0_toldRow ⟨Nat.le_of_ble_eq_true rfl, Nat.le_of_ble_eq_true rfl⟩) hW (xx_recv hW) hS rfl hl.1 rfl (Nat.le_of_ble_eq_true rfl) dX0_told_33 (fun r14 σ13 H locs hw hW hS => ?_)
        refine lv_goto (tgt := 41) hx hb dX0_told_36 (by decide) ?_
        exact gg_iret (xx_mv D E A ad sk) C0 hW hS hw dX0_told_41
  · have hw := hw.1 c17
    refine lv_aload_n hx hb dX0_told_4 rfl (lv_at hl 0 rfl) ?_
    refine xx_geti hx hb hts hown hW 2 (by decide) q747 dX0_told_5 ?_
    exact gg_iret (xx_mv D E A ad sk) C0 hW hS hw dX0_told_8
theorem cd_X0_set : yX0_set.cls = RX0 ∧ yX0_set.cls ≠ "java/lang/invoke/MethodHandle" ∧ yX0_set.cls ≠ "java/lang/invoke/VarHandle" ∧ (parseMethodDescriptor yX0_set.desc).map (fun d => d.parameters.length) = some 3 := by decide +kernel
/-! GleanersForGaps.set(III)I -/
def xxw_set  (a1 : Int32) (a2 : Int32) (a3 : Int32) (σ : xx_S) (Q : Int32 → xx_S → Prop) : Prop :=
    (xxw_isSo a1 a2 a3 σ (fun r2 σ1 => (((r2 = 0) → Q (-2 : Int32) σ1) ∧ (¬ (r2 = 0) → (xxw_told a2 a1 σ1 (fun r4 σ3 => (xxw_becomes a1 a2 a3 σ3 (fun σ5 => Q r4 σ5))))))))
abbrev xxr_set : Room := { frames := 206, cells := 0, slots := 0, locals := 6089 }
set_option maxHeartbeats 4000000 in
set_option maxRecDepth 100000 in
theorem xxt_set (l : Launch) {D : va_G} {E : Nat → ClassId} {A : Nat → Prop} {ad sk : Nat → Nat}  (a1 : Int32) (a2 : Int32) (a3 : Int32) (σ : xx_S) {Q : Int32 → xx_S → Prop} (hw : xxw_set a1 a2 a3 σ Q) :
    Met l yX0_set (ws_ yX0_set cX0_set 5 (some .int)) xxr_set (va_Pc [.ref (ad 0), .int a1, .int a2, .int a3] (fun U => xx_V D E A ad sk σ U U.heap)) (va_Qi Q (fun u t => xx_W D E A ad sk u t t.heap) A) 0 0 A := by
  refine gg_entry (W0 := fun s H => xx_V D E A ad sk σ s H) (by decide) (Nat.le_of_ble_eq_true rfl) ?_
  intro p e s m args below meth c C0 hV ls hl
  have C0 : gg_C p s m args meth c RX0 cX0_set 5 (some .int) := C0
  obtain ⟨hx, hb, hml, hown, hts, hr, hlocks⟩ := id C0
  have hl : lv_has ls 5 [(0, .ref (ad 0)), (1, .int a1), (2, .int a2), (3, .int a3)] := hl
  have hS : va_S A s.heap s.heap [] := va_S.rf
  have hA : xx_A sk A s := hV.2
  have hW : xx_W D E A ad sk σ s s.heap := hV.1
  unfold xxw_set at hw
  refine lv_aload_n hx hb dX0_set_0 rfl (lv_at hl 0 rfl) ?_
  refine lv_iload_n hx hb dX0_set_1 rfl (lv_at hl 1 rfl) ?_
  refine lv_iload_n hx hb dX0_set_2 rfl (lv_at hl 2 rfl) ?_
  refine lv_iload_n hx hb dX0_set_3 rfl (lv_at hl 3 rfl) ?_
  refine xx_VI ⟨hx, hb, hml, hown, hts⟩ hA (xxt_isSo l _ _ _ _ hw) (cwV 3 hts (lw_V q240 q242 qs1 q103 q243) rfl rfl rfl cd_X0_isSo ⟨Nat.le_of_ble_eq_true rfl, Nat.le_of_ble_eq_true rfl⟩) hW (xx_recv hW) hS rfl hl.1 rfl (Nat.le_of_ble_eq_true rfl) dX0_set_4 (fun r2 σ1 H locs hw hW hS => ?_)
  obtain ⟨hz_r2, hw⟩ := hw
  refine lv_if_ne (tgt := 13) hx hb dX0_set_7 (by decide) (fun c6 => ?_) (fun c6 => ?_)
  · have hw := hw.2 c6
    refine lv_aload_n hx hb dX0_set_13 rfl (lv_at hl 0 rfl) ?_
    refine lv_iload_n hx hb dX0_set_14 rfl (lv_at hl 2 rfl) ?_
    refine lv_iload_n hx hb dX0_set_15 rfl (lv_at hl 1 rfl) ?_
    refine xx_VI ⟨hx, hb, hml, hown, hts⟩ hA (xxt_told l _ _ _ hw) (cwV 2 hts (lw_V q249 q250 q251 q103 q252) rfl rfl rfl cd_X0_told ⟨Nat.le_of_ble_eq_true rfl, Nat.le_of_ble_eq_true rfl⟩) hW (xx_recv hW) hS rfl hl.1 rfl (Nat.le_of_ble_eq_true rfl) dX0_set_16 (fun r4 σ3 H locs hw hW hS => ?_)
    refine lv_istore (lv' := [(4, .int r4), (0, .ref (ad 0)), (1, .int a1), (2, .int a2), (3, .int a3)]) hx hb dX0_set_19 hl (by decide) rfl (fun ls hl => ?_)
    refine lv_aload_n hx hb dX0_set_21 rfl (lv_at hl 1 rfl) ?_
    refine lv_iload_n hx hb dX0_set_22 rfl (lv_at hl 2 rfl) ?_
    refine lv_iload_n hx hb dX0_set_23 rfl (lv_at hl 3 rfl) ?_
    refine lv_iload_n hx hb dX0_set_24 rfl (lv_at hl 4 rfl) ?_
    refine xx_VV ⟨hx, hb, hml, hown, hts⟩ hA (xxt_becomes l _ _ _ _ hw) (cwV 3 hts (lw_V q367 q369 qs12 q103 q370) rfl rfl rfl cd_X0_becomes ⟨Nat.le_of_ble_eq_true rfl, Nat.le_of_ble_eq_true rfl⟩) hW (xx_recv hW) hS rfl hl.1 rfl (Nat.le_of_ble_eq_true rfl) dX0_set_25 (fun σ5 H locs hw hW hS => ?_)
    refine lv_iload hx hb dX0_set_28 (lv_at hl 0 rfl) ?_
    exact gg_iret (xx_mv D E A ad sk) C0 hW hS hw dX0_set_30
  · have hw := hw.1 c6
    refine lv_bipush (v := (-2 : Int32)) hx hb dX0_set_10 (by decide) ?_
    exact gg_iret (xx_mv D E A ad sk) C0 hW hS hw dX0_set_12
theorem cd_X0_run : yX0_run.cls = RX0 ∧ yX0_run.cls ≠ "java/lang/invoke/MethodHandle" ∧ yX0_run.cls ≠ "java/lang/invoke/VarHandle" ∧ (parseMethodDescriptor yX0_run.desc).map (fun d => d.parameters.length) = some 2 := by decide +kernel
/-! GleanersForGaps.run(II)I -/
def xxw_run  (a1 : Int32) (a2 : Int32) (σ : xx_S) (Q : Int32 → xx_S → Prop) : Prop :=
    (xxw_isRow a1 σ (fun r2 σ1 => (((r2 = 0) → Q (-2 : Int32) σ1) ∧ (¬ (r2 = 0) → (xxw_tellsRuns a1 σ1 (fun r4 σ3 => (xxw_in ((a2).toInt64) (0 : Int64) (((r4 - (1 : Int32))).toInt64) σ3 (fun r6 σ5 => (((r6 = 0) → Q (-2 : Int32) σ5) ∧ (¬ (r6 = 0) → vp_in a2 24 ∧ Q (xx_g σ5 3 a2.toNatClampNeg) σ5))))))))))
abbrev xxr_run : Room := { frames := 2, cells := 0, slots := 0, locals := 46 }
set_option maxHeartbeats 4000000 in
set_option maxRecDepth 100000 in
theorem xxt_run (l : Launch) {D : va_G} {E : Nat → ClassId} {A : Nat → Prop} {ad sk : Nat → Nat}  (a1 : Int32) (a2 : Int32) (σ : xx_S) {Q : Int32 → xx_S → Prop} (hw : xxw_run a1 a2 σ Q) :
    Met l yX0_run (ws_ yX0_run cX0_run 3 (some .int)) xxr_run (va_Pc [.ref (ad 0), .int a1, .int a2] (fun U => xx_V D E A ad sk σ U U.heap)) (va_Qi Q (fun u t => xx_W D E A ad sk u t t.heap) A) 0 0 A := by
  refine gg_entry (W0 := fun s H => xx_V D E A ad sk σ s H) (by decide) (Nat.le_of_ble_eq_true rfl) ?_
  intro p e s m args below meth c C0 hV ls hl
  have C0 : gg_C p s m args meth c RX0 cX0_run 3 (some .int) := C0
  obtain ⟨hx, hb, hml, hown, hts, hr, hlocks⟩ := id C0
  have hl : lv_has ls 3 [(0, .ref (ad 0)), (1, .int a1), (2, .int a2)] := hl
  have hS : va_S A s.heap s.heap [] := va_S.rf
  have hA : xx_A sk A s := hV.2
  have hW : xx_W D E A ad sk σ s s.heap := hV.1
  unfold xxw_run at hw
  refine lv_iload_n hx hb dX0_run_0 rfl (lv_at hl 1 rfl) ?_
  refine xx_SI ⟨hx, hb, hml, hown, hts⟩ hA (xxt_isRow l _ _ hw) (va_cwS 1 hts (lw_S q220 q221 q103 q222) rfl rfl rfl cd_X0_isRow.2 ⟨Nat.le_of_ble_eq_true rfl, Nat.le_of_ble_eq_true rfl⟩) hW hS rfl hl.1 rfl (Nat.le_of_ble_eq_true rfl) dX0_run_1 (fun r2 σ1 H locs hw hW hS => ?_)
  obtain ⟨hz_r2, hw⟩ := hw
  refine lv_if_eq (tgt := 33) hx hb dX0_run_4 (by decide) (fun c8 => ?_) (fun c8 => ?_)
  · have hw := hw.1 c8
    refine lv_bipush (v := (-2 : Int32)) hx hb dX0_run_33 (by decide) ?_
    exact gg_iret (xx_mv D E A ad sk) C0 hW hS hw dX0_run_35
  · have hw := hw.2 c8
    refine lv_iload_n hx hb dX0_run_7 rfl (lv_at hl 2 rfl) ?_
    refine lv_i2l (v := (a2).toInt64) hx hb dX0_run_8 rfl ?_
    refine lv_lconst (v := (0 : Int64)) hx hb dX0_run_9 (by decide) ?_
    refine lv_aload_n hx hb dX0_run_10 rfl (lv_at hl 0 rfl) ?_
    refine lv_iload_n hx hb dX0_run_11 rfl (lv_at hl 1 rfl) ?_
    refine xx_VI ⟨hx, hb, hml, hown, hts⟩ hA (xxt_tellsRuns l _ _ hw) (cwV 1 hts (lw_V q262 q264 qs5 q103 q265) rfl rfl rfl cd_X0_tellsRuns ⟨Nat.le_of_ble_eq_true rfl, Nat.le_of_ble_eq_true rfl⟩) hW (xx_recv hW) hS rfl hl.1 rfl (Nat.le_of_ble_eq_true rfl) dX0_run_12 (fun r4 σ3 H locs hw hW hS => ?_)
    refine lv_iconst (v := (1 : Int32)) hx hb dX0_run_15 (by decide) ?_
    refine lv_isub hx hb dX0_run_16 ?_
    refine lv_i2l (v := ((r4 - (1 : Int32))).toInt64) hx hb dX0_run_17 rfl ?_
    refine xx_SI ⟨hx, hb, hml, hown, hts⟩ hA (xxt_in l _ _ _ _ hw) (va_cwS 3 hts (lw_S q139 q140 q103 q141) rfl rfl rfl cd_X0_in.2 ⟨Nat.le_of_ble_eq_true rfl, Nat.le_of_ble_eq_true rfl⟩) hW hS rfl hl.1 rfl (Nat.le_of_ble_eq_true rfl) dX0_run_18 (fun r6 σ5 H locs hw hW hS => ?_)
    obtain ⟨hz_r6, hw⟩ := hw
    refine lv_if_eq (tgt := 33) hx hb dX0_run_21 (by decide) (fun c7 => ?_) (fun c7 => ?_)
    · have hw := hw.1 c7
      refine lv_bipush (v := (-2 : Int32)) hx hb dX0_run_33 (by decide) ?_
      exact gg_iret (xx_mv D E A ad sk) C0 hW hS hw dX0_run_35
    · have hw := hw.2 c7
      refine lv_aload_n hx hb dX0_run_24 rfl (lv_at hl 0 rfl) ?_
      refine xx_getr hx hb hts hown hW 5 3 (by decide) q750 dX0_run_25 ?_
      refine lv_iload_n hx hb dX0_run_28 rfl (lv_at hl 2 rfl) ?_
      obtain ⟨hin, hw⟩ := hw
      refine xx_ald hx hb hW 3 24 (by decide) rfl hin dX0_run_29 ?_
      refine lv_goto (tgt := 35) hx hb dX0_run_30 (by decide) ?_
      exact gg_iret (xx_mv D E A ad sk) C0 hW hS hw dX0_run_35
theorem cd_X0_feed : yX0_feed.cls = RX0 ∧ yX0_feed.cls ≠ "java/lang/invoke/MethodHandle" ∧ yX0_feed.cls ≠ "java/lang/invoke/VarHandle" ∧ (parseMethodDescriptor yX0_feed.desc).map (fun d => d.parameters.length) = some 1 := by decide +kernel
/-! GleanersForGaps.feed(I)I -/
def xxw_feed  (a1 : Int32) (σ : xx_S) (Q : Int32 → xx_S → Prop) : Prop :=
    (xxw_in ((a1).toInt64) (0 : Int64) (255 : Int64) σ (fun r2 σ1 => (((r2 = 0) → Q (-2 : Int32) σ1) ∧ (¬ (r2 = 0) → ((((xx_g σ1 0 17) = (160 : Int32)) → Q (-4 : Int32) σ1) ∧ (¬ ((xx_g σ1 0 17) = (160 : Int32)) → vp_in (xx_g σ1 0 17) 160 ∧ (∀ σ3 : xx_S, σ3 = xx_s σ1 30 (xx_g σ1 0 17).toNatClampNeg ((a1).toInt8.toInt32).toInt8.toInt32 → (∀ σ4 : xx_S, σ4 = xx_s σ3 0 17 ((xx_g σ3 0 17) + (1 : Int32)) → Q (xx_g σ4 0 17) σ4))))))))
abbrev xxr_feed : Room := { frames := 1, cells := 0, slots := 0, locals := 25 }
set_option maxHeartbeats 4000000 in
set_option maxRecDepth 100000 in
theorem xxt_feed (l : Launch) {D : va_G} {E : Nat → ClassId} {A : Nat → Prop} {ad sk : Nat → Nat}  (a1 : Int32) (σ : xx_S) {Q : Int32 → xx_S → Prop} (hw : xxw_feed a1 σ Q) :
    Met l yX0_feed (ws_ yX0_feed cX0_feed 2 (some .int)) xxr_feed (va_Pc [.ref (ad 0), .int a1] (fun U => xx_V D E A ad sk σ U U.heap)) (va_Qi Q (fun u t => xx_W D E A ad sk u t t.heap) A) 0 0 A := by
  refine gg_entry (W0 := fun s H => xx_V D E A ad sk σ s H) (by decide) (Nat.le_of_ble_eq_true rfl) ?_
  intro p e s m args below meth c C0 hV ls hl
  have C0 : gg_C p s m args meth c RX0 cX0_feed 2 (some .int) := C0
  obtain ⟨hx, hb, hml, hown, hts, hr, hlocks⟩ := id C0
  have hl : lv_has ls 2 [(0, .ref (ad 0)), (1, .int a1)] := hl
  have hS : va_S A s.heap s.heap [] := va_S.rf
  have hA : xx_A sk A s := hV.2
  have hW : xx_W D E A ad sk σ s s.heap := hV.1
  unfold xxw_feed at hw
  refine lv_iload_n hx hb dX0_feed_0 rfl (lv_at hl 1 rfl) ?_
  refine lv_i2l (v := (a1).toInt64) hx hb dX0_feed_1 rfl ?_
  refine lv_lconst (v := (0 : Int64)) hx hb dX0_feed_2 (by decide) ?_
  refine lv_ldc2 (own := RX0) (v := (255 : Int64)) hx hb hown (hts _ q380) dX0_feed_3 ?_
  refine xx_SI ⟨hx, hb, hml, hown, hts⟩ hA (xxt_in l _ _ _ _ hw) (va_cwS 3 hts (lw_S q139 q140 q103 q141) rfl rfl rfl cd_X0_in.2 ⟨Nat.le_of_ble_eq_true rfl, Nat.le_of_ble_eq_true rfl⟩) hW hS rfl hl.1 rfl (Nat.le_of_ble_eq_true rfl) dX0_feed_6 (fun r2 σ1 H locs hw hW hS => ?_)
  obtain ⟨hz_r2, hw⟩ := hw
  refine lv_if_ne (tgt := 15) hx hb dX0_feed_9 (by decide) (fun c6 => ?_) (fun c6 => ?_)
  · have hw := hw.2 c6
    refine lv_aload_n hx hb dX0_feed_15 rfl (lv_at hl 0 rfl) ?_
    refine xx_geti hx hb hts hown hW 17 (by decide) q767 dX0_feed_16 ?_
    refine lv_sipush (v := (160 : Int32)) hx hb dX0_feed_19 (by decide) ?_
    refine lv_icmp_ne (tgt := 28) hx hb dX0_feed_22 (by decide) (fun c5 => ?_) (fun c5 => ?_)
    · have hw := hw.2 c5
      refine lv_aload_n hx hb dX0_feed_28 rfl (lv_at hl 0 rfl) ?_
      refine xx_getr hx hb hts hown hW 16 30 (by decide) q766 dX0_feed_29 ?_
      refine lv_aload_n hx hb dX0_feed_32 rfl (lv_at hl 0 rfl) ?_
      refine xx_geti hx hb hts hown hW 17 (by decide) q767 dX0_feed_33 ?_
      refine lv_iload_n hx hb dX0_feed_36 rfl (lv_at hl 1 rfl) ?_
      refine lv_i2b (v := (a1).toInt8.toInt32) hx hb dX0_feed_37 rfl ?_
      obtain ⟨hin, hw⟩ := hw
      refine xx_bst hx hb hW hS hin dX0_feed_38 (fun H locs hW hS => ?_)
      obtain ⟨σ3, eσ3⟩ : ∃ z, z = xx_s σ1 30 (xx_g σ1 0 17).toNatClampNeg ((a1).toInt8.toInt32).toInt8.toInt32 := ⟨_, rfl⟩
      rw [← eσ3] at hW
      have hw := hw σ3 eσ3
      refine lv_aload_n hx hb dX0_feed_39 rfl (lv_at hl 0 rfl) ?_
      refine lv_dup hx hb dX0_feed_40 rfl ?_
      refine xx_geti hx hb hts hown hW 17 (by decide) q767 dX0_feed_41 ?_
      refine lv_iconst (v := (1 : Int32)) hx hb dX0_feed_44 (by decide) ?_
      refine lv_iadd hx hb dX0_feed_45 ?_
      refine xx_puti hx hb hts hown hW hS 17 (by decide) q767 rfl rfl rfl dX0_feed_46 (fun H locs hW hS => ?_)
      obtain ⟨σ4, eσ4⟩ : ∃ z, z = xx_s σ3 0 17 ((xx_g σ3 0 17) + (1 : Int32)) := ⟨_, rfl⟩
      rw [← eσ4] at hW
      have hw := hw σ4 eσ4
      refine lv_aload_n hx hb dX0_feed_49 rfl (lv_at hl 0 rfl) ?_
      refine xx_geti hx hb hts hown hW 17 (by decide) q767 dX0_feed_50 ?_
      exact gg_iret (xx_mv D E A ad sk) C0 hW hS hw dX0_feed_53
    · have hw := hw.1 c5
      refine lv_bipush (v := (-4 : Int32)) hx hb dX0_feed_25 (by decide) ?_
      exact gg_iret (xx_mv D E A ad sk) C0 hW hS hw dX0_feed_27
  · have hw := hw.1 c6
    refine lv_bipush (v := (-2 : Int32)) hx hb dX0_feed_12 (by decide) ?_
    exact gg_iret (xx_mv D E A ad sk) C0 hW hS hw dX0_feed_14
