/-! GleanersForGaps$Faulty -/
set_option maxRecDepth 100000
def RX1 : String := "GleanersForGaps$Faulty"
def TX1 : u_T := fun k => match k with
  | 0 => ("java/lang/Throwable", "cause", "Ljava/lang/Throwable;", false)
  | 1 => ("java/lang/Throwable", "stackTrace", "[Ljava/lang/StackTraceElement;", false)
  | 2 => ("java/lang/Throwable", "suppressedExceptions", "Ljava/util/List;", false)
  | 3 => ("java/lang/Throwable", "detailMessage", "Ljava/lang/String;", false)
  | 4 => ("java/lang/Throwable", "backtrace", "Ljava/lang/Object;", false)
  | _ => ("java/lang/Throwable", "depth", "I", false)
def tyX1 : Nat → FieldType := fun k => match k with
  | 0 => .object "java/lang/Throwable"
  | 1 => .array (.object "java/lang/StackTraceElement")
  | 2 => .object "java/util/List"
  | 3 => .object "java/lang/String"
  | 4 => .object "java/lang/Object"
  | _ => .int
abbrev wsX10 : List Cond := u_ws RX1 TX1 6
theorem nmX1 : ∀ a, a < 6 → ∀ b, b < 6 → a ≠ b → (TX1 a).2.1 ≠ (TX1 b).2.1 := by decide +kernel
theorem tyX1_ok : ∀ k, k < 6 → parseFieldDescriptor (TX1 k).2.2.1 = some (tyX1 k) := by decide +kernel
abbrev cX1_init : ByteArray := prog_3_method_1_code
def yX1_init : MethodName := ⟨RX1, "<init>", "()V"⟩
def dkwX1_init_0 : List UInt8 := [42, 1, 1, 3, 3, 183, 0, 1, 177]
abbrev dktX1_init_0 : List UInt8 := dkwX1_init_0 ++ []
theorem dksX1_init_0 : cX1_init.data.toList.drop 0 = dktX1_init_0 := by decide +kernel
theorem dX1_init_0 : decode cX1_init 0 = .ok (.aload_n 0, 1) := dk_42 (dk_at dksX1_init_0 0 rfl rfl)
theorem dX1_init_1 : decode cX1_init 1 = .ok (.aconst_null, 1) := dk_1 (dk_at dksX1_init_0 1 rfl rfl)
theorem dX1_init_2 : decode cX1_init 2 = .ok (.aconst_null, 1) := dk_1 (dk_at dksX1_init_0 2 rfl rfl)
theorem dX1_init_3 : decode cX1_init 3 = .ok (.iconst 0, 1) := dk_3 (dk_at dksX1_init_0 3 rfl rfl)
theorem dX1_init_4 : decode cX1_init 4 = .ok (.iconst 0, 1) := dk_3 (dk_at dksX1_init_0 4 rfl rfl)
theorem dX1_init_5 : decode cX1_init 5 = .ok (.invokespecial 1, 3) := dk_183 0 1 (dk_at dksX1_init_0 5 rfl rfl)
theorem dX1_init_8 : decode cX1_init 8 = .ok (.return_, 1) := dk_177 (dk_at dksX1_init_0 8 rfl rfl)
theorem q107 : (Jvm.Cond.initialized "GleanersForGaps$Faulty") ∈ lw_all := lw_g (lw_at lw_m1 5 rfl) rfl
theorem q628 : (Jvm.Cond.instantiable "GleanersForGaps$Faulty" (6 : Nat)) ∈ lw_all := lw_g (lw_at lw_m3 46 rfl) rfl
theorem q629 : (Jvm.Cond.castable "GleanersForGaps$Faulty" "GleanersForGaps$Faulty") ∈ lw_tbl := lw_at lw_m3 47 rfl
theorem q636 : (Jvm.Cond.selects "GleanersForGaps$Faulty" ({ cls := "java/lang/Throwable", name := "fillInStackTrace", desc := "(I)Ljava/lang/Throwable;" } : Jvm.MethodName) ({ cls := "java/lang/Throwable", name := "fillInStackTrace", desc := "(I)Ljava/lang/Throwable;" } : Jvm.MethodName)) ∈ lw_all := lw_g (lw_at lw_m3 54 rfl) rfl
theorem q637 : (Jvm.Cond.selects "GleanersForGaps$Faulty" ({ cls := "java/lang/Throwable", name := "fillInStackTrace", desc := "()Ljava/lang/Throwable;" } : Jvm.MethodName) ({ cls := "java/lang/Throwable", name := "fillInStackTrace", desc := "()Ljava/lang/Throwable;" } : Jvm.MethodName)) ∈ lw_all := lw_g (lw_at lw_m3 55 rfl) rfl
theorem q638 : (Jvm.Cond.lays "GleanersForGaps$Faulty" "java/lang/Throwable" "cause" "Ljava/lang/Throwable;") ∈ lw_all := lw_g (lw_at lw_m3 56 rfl) rfl
theorem q640 : (Jvm.Cond.lays "GleanersForGaps$Faulty" "java/lang/Throwable" "stackTrace" "[Ljava/lang/StackTraceElement;") ∈ lw_all := lw_g (lw_at lw_m3 58 rfl) rfl
theorem q642 : (Jvm.Cond.lays "GleanersForGaps$Faulty" "java/lang/Throwable" "suppressedExceptions" "Ljava/util/List;") ∈ lw_all := lw_g (lw_at lw_m3 60 rfl) rfl
theorem q644 : (Jvm.Cond.lays "GleanersForGaps$Faulty" "java/lang/Throwable" "detailMessage" "Ljava/lang/String;") ∈ lw_all := lw_g (lw_at lw_m3 62 rfl) rfl
theorem q646 : (Jvm.Cond.lays "GleanersForGaps$Faulty" "java/lang/Throwable" "backtrace" "Ljava/lang/Object;") ∈ lw_all := lw_g (lw_at lw_m3 64 rfl) rfl
theorem q685 : (Jvm.Cond.instanceMethod ({ cls := "GleanersForGaps$Faulty", name := "<init>", desc := "()V" } : Jvm.MethodName)) ∈ lw_all := lw_g (lw_at lw_m3 103 rfl) rfl
theorem q686 : (Jvm.Cond.code ({ cls := "GleanersForGaps$Faulty", name := "<init>", desc := "()V" } : Jvm.MethodName) prog_3_method_1_code (1 : Nat) (Option.none : Option Jvm.ClassFile.FieldType)) ∈ lw_all := lw_g (lw_at lw_m3 104 rfl) rfl
theorem q687 : (Jvm.Cond.methodLink "GleanersForGaps$Faulty" (1 : Nat) ({ cls := "java/lang/RuntimeException", name := "<init>", desc := "(Ljava/lang/String;Ljava/lang/Throwable;ZZ)V" } : Jvm.MethodName)) ∈ lw_all := lw_g (lw_at lw_m3 105 rfl) rfl
theorem q705 : (Jvm.Cond.lays "GleanersForGaps$Faulty" "java/lang/Throwable" "depth" "I") ∈ lw_all := lw_g (lw_at lw_m3 123 rfl) rfl
theorem q708 : (Jvm.Cond.superclass "GleanersForGaps$Faulty" "java/lang/RuntimeException") ∈ lw_all := lw_g (lw_at lw_m3 126 rfl) rfl
theorem in_X1 : ∀ w ∈ wsX10, w ∈ lw_all := lw_in wsX10 [638, 640, 642, 644, 646, 705] (by decide +kernel) (by decide +kernel)
/-! GleanersForGaps$Sheet -/
set_option maxRecDepth 100000
def RX2 : String := "GleanersForGaps$Sheet"
def TX2 : u_T := fun k => match k with
  | _ => ("GleanersForGaps$Sheet", "row", "Ljava/lang/Object;", false)
def tyX2 : Nat → FieldType := fun k => match k with
  | _ => .object "java/lang/Object"
abbrev wsX20 : List Cond := u_ws RX2 TX2 1
theorem nmX2 : ∀ a, a < 1 → ∀ b, b < 1 → a ≠ b → (TX2 a).2.1 ≠ (TX2 b).2.1 := by decide +kernel
theorem tyX2_ok : ∀ k, k < 1 → parseFieldDescriptor (TX2 k).2.2.1 = some (tyX2 k) := by decide +kernel
abbrev cX2_init : ByteArray := prog_11_method_1_code
def yX2_init : MethodName := ⟨RX2, "<init>", "()V"⟩
theorem dX2_init_0 : decode cX2_init 0 = .ok (.aload_n 0, 1) := by decide +kernel
theorem dX2_init_1 : decode cX2_init 1 = .ok (.invokespecial 1, 3) := by decide +kernel
theorem dX2_init_4 : decode cX2_init 4 = .ok (.return_, 1) := by decide +kernel
theorem q108 : (Jvm.Cond.initialized "GleanersForGaps$Sheet") ∈ lw_all := lw_g (lw_at lw_m1 6 rfl) rfl
theorem q730 : (Jvm.Cond.instantiable "GleanersForGaps$Sheet" (1 : Nat)) ∈ lw_all := lw_g (lw_at lw_m3 148 rfl) rfl
theorem q732 : (Jvm.Cond.instanceMethod ({ cls := "GleanersForGaps$Sheet", name := "<init>", desc := "()V" } : Jvm.MethodName)) ∈ lw_all := lw_g (lw_at lw_m3 150 rfl) rfl
theorem q733 : (Jvm.Cond.code ({ cls := "GleanersForGaps$Sheet", name := "<init>", desc := "()V" } : Jvm.MethodName) prog_11_method_1_code (1 : Nat) (Option.none : Option Jvm.ClassFile.FieldType)) ∈ lw_all := lw_g (lw_at lw_m3 151 rfl) rfl
theorem q734 : (Jvm.Cond.methodLink "GleanersForGaps$Sheet" (1 : Nat) ({ cls := "java/lang/Object", name := "<init>", desc := "()V" } : Jvm.MethodName)) ∈ lw_all := lw_g (lw_at lw_m3 152 rfl) rfl
theorem q736 : (Jvm.Cond.lays "GleanersForGaps$Sheet" "GleanersForGaps$Sheet" "row" "Ljava/lang/Object;") ∈ lw_all := lw_g (lw_at lw_m3 154 rfl) rfl
theorem q737 : (Jvm.Cond.soleField "GleanersForGaps$Sheet" "row") ∈ lw_all := lw_g (lw_at lw_m3 155 rfl) rfl
theorem q738 : (Jvm.Cond.superclass "GleanersForGaps$Sheet" "java/lang/Object") ∈ lw_all := lw_g (lw_at lw_m3 156 rfl) rfl
theorem in_X2 : ∀ w ∈ wsX20, w ∈ lw_all := lw_in wsX20 [736] (by decide +kernel) (by decide +kernel)
/-! GleanersForGaps$Node -/
set_option maxRecDepth 100000
def RX3 : String := "GleanersForGaps$Node"
abbrev cX3_init : ByteArray := prog_7_method_1_code
def yX3_init : MethodName := ⟨RX3, "<init>", "()V"⟩
theorem dX3_init_0 : decode cX3_init 0 = .ok (.aload_n 0, 1) := by decide +kernel
theorem dX3_init_1 : decode cX3_init 1 = .ok (.invokespecial 1, 3) := by decide +kernel
theorem dX3_init_4 : decode cX3_init 4 = .ok (.return_, 1) := by decide +kernel
theorem q115 : (Jvm.Cond.initialized "GleanersForGaps$Node") ∈ lw_all := lw_g (lw_at lw_m1 13 rfl) rfl
theorem q289 : (Jvm.Cond.declares ({ cls := "GleanersForGaps$Node", name := "worth", desc := "()I" } : Jvm.MethodName)) ∈ lw_tbl := lw_at lw_m1 187 rfl
theorem q290 : (Jvm.Cond.sameMethod "GleanersForGaps$Node" "GleanersForGaps$Node" "worth" "()I") ∈ lw_all := lw_g (lw_at lw_m1 188 rfl) rfl
theorem q556 : (Jvm.Cond.instanceMethod ({ cls := "GleanersForGaps$Node", name := "<init>", desc := "()V" } : Jvm.MethodName)) ∈ lw_all := lw_g (lw_at lw_m2 214 rfl) rfl
theorem q557 : (Jvm.Cond.code ({ cls := "GleanersForGaps$Node", name := "<init>", desc := "()V" } : Jvm.MethodName) prog_7_method_1_code (1 : Nat) (Option.none : Option Jvm.ClassFile.FieldType)) ∈ lw_all := lw_g (lw_at lw_m2 215 rfl) rfl
theorem q558 : (Jvm.Cond.methodLink "GleanersForGaps$Node" (1 : Nat) ({ cls := "java/lang/Object", name := "<init>", desc := "()V" } : Jvm.MethodName)) ∈ lw_all := lw_g (lw_at lw_m2 216 rfl) rfl
/-! GleanersForGaps$Turned -/
set_option maxRecDepth 100000
def RX4 : String := "GleanersForGaps$Turned"
def TX4 : u_T := fun k => match k with
  | 0 => ("GleanersForGaps$Turned", "of", "LGleanersForGaps$Node;", true)
  | _ => ("GleanersForGaps$Turned", "isMinus", "Z", true)
def tyX4 : Nat → FieldType := fun k => match k with
  | 0 => .object "GleanersForGaps$Node"
  | _ => .boolean
abbrev wsX40 : List Cond := u_ws RX4 TX4 2
theorem nmX4 : ∀ a, a < 2 → ∀ b, b < 2 → a ≠ b → (TX4 a).2.1 ≠ (TX4 b).2.1 := by decide +kernel
theorem tyX4_ok : ∀ k, k < 2 → parseFieldDescriptor (TX4 k).2.2.1 = some (tyX4 k) := by decide +kernel
abbrev cX4_worth : ByteArray := prog_12_method_2_code
def yX4_worth : MethodName := ⟨RX4, "worth", "()I"⟩
def dkwX4_worth_1 : List UInt8 := [4, 167, 0, 4, 3, 172]
abbrev dktX4_worth_1 : List UInt8 := dkwX4_worth_1 ++ []
def dkwX4_worth_0 : List UInt8 := [42, 180, 0, 7, 182, 0, 17, 60, 42, 180, 0, 13, 153, 0, 8, 27, 116, 167, 0, 12, 27, 154, 0, 7]
abbrev dktX4_worth_0 : List UInt8 := dkwX4_worth_0 ++ dktX4_worth_1
theorem dksX4_worth_0 : cX4_worth.data.toList.drop 0 = dktX4_worth_0 := by decide +kernel
theorem dksX4_worth_1 : cX4_worth.data.toList.drop 24 = dktX4_worth_1 := dk_seg dksX4_worth_0 24 rfl rfl
theorem dX4_worth_0 : decode cX4_worth 0 = .ok (.aload_n 0, 1) := dk_42 (dk_at dksX4_worth_0 0 rfl rfl)
theorem dX4_worth_1 : decode cX4_worth 1 = .ok (.getfield 7, 3) := dk_180 0 7 (dk_at dksX4_worth_0 1 rfl rfl)
theorem dX4_worth_4 : decode cX4_worth 4 = .ok (.invokevirtual 17, 3) := dk_182 0 17 (dk_at dksX4_worth_0 4 rfl rfl)
theorem dX4_worth_7 : decode cX4_worth 7 = .ok (.istore_n 1, 1) := dk_60 (dk_at dksX4_worth_0 7 rfl rfl)
theorem dX4_worth_8 : decode cX4_worth 8 = .ok (.aload_n 0, 1) := dk_42 (dk_at dksX4_worth_0 8 rfl rfl)
theorem dX4_worth_9 : decode cX4_worth 9 = .ok (.getfield 13, 3) := dk_180 0 13 (dk_at dksX4_worth_0 9 rfl rfl)
theorem dX4_worth_12 : decode cX4_worth 12 = .ok (.ifCond .eq 8, 3) := dk_153 0 8 (dk_at dksX4_worth_0 12 rfl rfl)
theorem dX4_worth_15 : decode cX4_worth 15 = .ok (.iload_n 1, 1) := dk_27 (dk_at dksX4_worth_0 15 rfl rfl)
theorem dX4_worth_16 : decode cX4_worth 16 = .ok (.ineg, 1) := dk_116 (dk_at dksX4_worth_0 16 rfl rfl)
theorem dX4_worth_17 : decode cX4_worth 17 = .ok (.goto 12, 3) := dk_167 0 12 (dk_at dksX4_worth_0 17 rfl rfl)
theorem dX4_worth_20 : decode cX4_worth 20 = .ok (.iload_n 1, 1) := dk_27 (dk_at dksX4_worth_0 20 rfl rfl)
theorem dX4_worth_21 : decode cX4_worth 21 = .ok (.ifCond .ne 7, 3) := dk_154 0 7 (dk_at dksX4_worth_0 21 rfl rfl)
theorem dX4_worth_24 : decode cX4_worth 24 = .ok (.iconst 1, 1) := dk_4 (dk_at dksX4_worth_1 0 rfl rfl)
theorem dX4_worth_25 : decode cX4_worth 25 = .ok (.goto 4, 3) := dk_167 0 4 (dk_at dksX4_worth_1 1 rfl rfl)
theorem dX4_worth_28 : decode cX4_worth 28 = .ok (.iconst 0, 1) := dk_3 (dk_at dksX4_worth_1 4 rfl rfl)
theorem dX4_worth_29 : decode cX4_worth 29 = .ok (.ireturn, 1) := dk_172 (dk_at dksX4_worth_1 5 rfl rfl)
abbrev cX4_init : ByteArray := prog_12_method_1_code
def yX4_init : MethodName := ⟨RX4, "<init>", "(LGleanersForGaps$Node;Z)V"⟩
def dkwX4_init_0 : List UInt8 := [42, 183, 0, 1, 42, 43, 181, 0, 7, 42, 28, 181, 0, 13, 177]
abbrev dktX4_init_0 : List UInt8 := dkwX4_init_0 ++ []
theorem dksX4_init_0 : cX4_init.data.toList.drop 0 = dktX4_init_0 := by decide +kernel
theorem dX4_init_0 : decode cX4_init 0 = .ok (.aload_n 0, 1) := dk_42 (dk_at dksX4_init_0 0 rfl rfl)
theorem dX4_init_1 : decode cX4_init 1 = .ok (.invokespecial 1, 3) := dk_183 0 1 (dk_at dksX4_init_0 1 rfl rfl)
theorem dX4_init_4 : decode cX4_init 4 = .ok (.aload_n 0, 1) := dk_42 (dk_at dksX4_init_0 4 rfl rfl)
theorem dX4_init_5 : decode cX4_init 5 = .ok (.aload_n 1, 1) := dk_43 (dk_at dksX4_init_0 5 rfl rfl)
theorem dX4_init_6 : decode cX4_init 6 = .ok (.putfield 7, 3) := dk_181 0 7 (dk_at dksX4_init_0 6 rfl rfl)
theorem dX4_init_9 : decode cX4_init 9 = .ok (.aload_n 0, 1) := dk_42 (dk_at dksX4_init_0 9 rfl rfl)
theorem dX4_init_10 : decode cX4_init 10 = .ok (.iload_n 2, 1) := dk_28 (dk_at dksX4_init_0 10 rfl rfl)
theorem dX4_init_11 : decode cX4_init 11 = .ok (.putfield 13, 3) := dk_181 0 13 (dk_at dksX4_init_0 11 rfl rfl)
theorem dX4_init_14 : decode cX4_init 14 = .ok (.return_, 1) := dk_177 (dk_at dksX4_init_0 14 rfl rfl)
theorem q116 : (Jvm.Cond.initialized "GleanersForGaps$Turned") ∈ lw_all := lw_g (lw_at lw_m1 14 rfl) rfl
theorem q297 : (Jvm.Cond.selects "GleanersForGaps$Turned" ({ cls := "GleanersForGaps$Node", name := "worth", desc := "()I" } : Jvm.MethodName) ({ cls := "GleanersForGaps$Turned", name := "worth", desc := "()I" } : Jvm.MethodName)) ∈ lw_all := lw_g (lw_at lw_m1 195 rfl) rfl
theorem q298 : (Jvm.Cond.instanceMethod ({ cls := "GleanersForGaps$Turned", name := "worth", desc := "()I" } : Jvm.MethodName)) ∈ lw_all := lw_g (lw_at lw_m1 196 rfl) rfl
theorem q299 : (Jvm.Cond.code ({ cls := "GleanersForGaps$Turned", name := "worth", desc := "()I" } : Jvm.MethodName) prog_12_method_2_code (2 : Nat) (Option.some Jvm.ClassFile.FieldType.int)) ∈ lw_all := lw_g (lw_at lw_m1 197 rfl) rfl
theorem q300 : (Jvm.Cond.methodLink "GleanersForGaps$Turned" (17 : Nat) ({ cls := "GleanersForGaps$Node", name := "worth", desc := "()I" } : Jvm.MethodName)) ∈ lw_all := lw_g (lw_at lw_m1 198 rfl) rfl
theorem q551 : (Jvm.Cond.instantiable "GleanersForGaps$Turned" (2 : Nat)) ∈ lw_all := lw_g (lw_at lw_m2 209 rfl) rfl
theorem q553 : (Jvm.Cond.instanceMethod ({ cls := "GleanersForGaps$Turned", name := "<init>", desc := "(LGleanersForGaps$Node;Z)V" } : Jvm.MethodName)) ∈ lw_all := lw_g (lw_at lw_m2 211 rfl) rfl
theorem q554 : (Jvm.Cond.code ({ cls := "GleanersForGaps$Turned", name := "<init>", desc := "(LGleanersForGaps$Node;Z)V" } : Jvm.MethodName) prog_12_method_1_code (3 : Nat) (Option.none : Option Jvm.ClassFile.FieldType)) ∈ lw_all := lw_g (lw_at lw_m2 212 rfl) rfl
theorem q555 : (Jvm.Cond.methodLinkNest "GleanersForGaps$Turned" (1 : Nat) ({ cls := "GleanersForGaps$Node", name := "<init>", desc := "()V" } : Jvm.MethodName) "GleanersForGaps") ∈ lw_tbl := lw_at lw_m2 213 rfl
theorem q559 : (Jvm.Cond.fieldLink "GleanersForGaps$Turned" (7 : Nat) "GleanersForGaps$Turned" "of" "LGleanersForGaps$Node;") ∈ lw_all := lw_g (lw_at lw_m2 217 rfl) rfl
theorem q560 : (Jvm.Cond.fieldLink "GleanersForGaps$Turned" (13 : Nat) "GleanersForGaps$Turned" "isMinus" "Z") ∈ lw_all := lw_g (lw_at lw_m2 218 rfl) rfl
theorem q561 : (Jvm.Cond.laysFinal "GleanersForGaps$Turned" "GleanersForGaps$Turned" "of" "LGleanersForGaps$Node;") ∈ lw_all := lw_g (lw_at lw_m2 219 rfl) rfl
theorem q562 : (Jvm.Cond.soleField "GleanersForGaps$Turned" "of") ∈ lw_all := lw_g (lw_at lw_m2 220 rfl) rfl
theorem q563 : (Jvm.Cond.laysFinal "GleanersForGaps$Turned" "GleanersForGaps$Turned" "isMinus" "Z") ∈ lw_all := lw_g (lw_at lw_m2 221 rfl) rfl
theorem q564 : (Jvm.Cond.soleField "GleanersForGaps$Turned" "isMinus") ∈ lw_all := lw_g (lw_at lw_m2 222 rfl) rfl
theorem q565 : (Jvm.Cond.superclass "GleanersForGaps$Turned" "GleanersForGaps$Node") ∈ lw_all := lw_g (lw_at lw_m2 223 rfl) rfl
theorem q1761 : (Jvm.Cond.castable "GleanersForGaps$Turned" "GleanersForGaps$Node") ∈ lw_tbl := lw_at lw_m7 219 rfl
theorem in_X4 : ∀ w ∈ wsX40, w ∈ lw_all := lw_in wsX40 [561, 563] (by decide +kernel) (by decide +kernel)
/-! GleanersForGaps$Number -/
set_option maxRecDepth 100000
def RX5 : String := "GleanersForGaps$Number"
def TX5 : u_T := fun k => match k with
  | _ => ("GleanersForGaps$Number", "v", "I", true)
def tyX5 : Nat → FieldType := fun k => match k with
  | _ => .int
abbrev wsX50 : List Cond := u_ws RX5 TX5 1
theorem nmX5 : ∀ a, a < 1 → ∀ b, b < 1 → a ≠ b → (TX5 a).2.1 ≠ (TX5 b).2.1 := by decide +kernel
theorem tyX5_ok : ∀ k, k < 1 → parseFieldDescriptor (TX5 k).2.2.1 = some (tyX5 k) := by decide +kernel
abbrev cX5_worth : ByteArray := prog_8_method_2_code
def yX5_worth : MethodName := ⟨RX5, "worth", "()I"⟩
theorem dX5_worth_0 : decode cX5_worth 0 = .ok (.aload_n 0, 1) := by decide +kernel
theorem dX5_worth_1 : decode cX5_worth 1 = .ok (.getfield 7, 3) := by decide +kernel
theorem dX5_worth_4 : decode cX5_worth 4 = .ok (.ireturn, 1) := by decide +kernel
abbrev cX5_init : ByteArray := prog_8_method_1_code
def yX5_init : MethodName := ⟨RX5, "<init>", "(I)V"⟩
def dkwX5_init_0 : List UInt8 := [42, 183, 0, 1, 42, 27, 181, 0, 7, 177]
abbrev dktX5_init_0 : List UInt8 := dkwX5_init_0 ++ []
theorem dksX5_init_0 : cX5_init.data.toList.drop 0 = dktX5_init_0 := by decide +kernel
theorem dX5_init_0 : decode cX5_init 0 = .ok (.aload_n 0, 1) := dk_42 (dk_at dksX5_init_0 0 rfl rfl)
theorem dX5_init_1 : decode cX5_init 1 = .ok (.invokespecial 1, 3) := dk_183 0 1 (dk_at dksX5_init_0 1 rfl rfl)
theorem dX5_init_4 : decode cX5_init 4 = .ok (.aload_n 0, 1) := dk_42 (dk_at dksX5_init_0 4 rfl rfl)
theorem dX5_init_5 : decode cX5_init 5 = .ok (.iload_n 1, 1) := dk_27 (dk_at dksX5_init_0 5 rfl rfl)
theorem dX5_init_6 : decode cX5_init 6 = .ok (.putfield 7, 3) := dk_181 0 7 (dk_at dksX5_init_0 6 rfl rfl)
theorem dX5_init_9 : decode cX5_init 9 = .ok (.return_, 1) := dk_177 (dk_at dksX5_init_0 9 rfl rfl)
theorem q117 : (Jvm.Cond.initialized "GleanersForGaps$Number") ∈ lw_all := lw_g (lw_at lw_m1 15 rfl) rfl
theorem q294 : (Jvm.Cond.selects "GleanersForGaps$Number" ({ cls := "GleanersForGaps$Node", name := "worth", desc := "()I" } : Jvm.MethodName) ({ cls := "GleanersForGaps$Number", name := "worth", desc := "()I" } : Jvm.MethodName)) ∈ lw_all := lw_g (lw_at lw_m1 192 rfl) rfl
theorem q295 : (Jvm.Cond.instanceMethod ({ cls := "GleanersForGaps$Number", name := "worth", desc := "()I" } : Jvm.MethodName)) ∈ lw_all := lw_g (lw_at lw_m1 193 rfl) rfl
theorem q296 : (Jvm.Cond.code ({ cls := "GleanersForGaps$Number", name := "worth", desc := "()I" } : Jvm.MethodName) prog_8_method_2_code (1 : Nat) (Option.some Jvm.ClassFile.FieldType.int)) ∈ lw_all := lw_g (lw_at lw_m1 194 rfl) rfl
theorem q580 : (Jvm.Cond.instantiable "GleanersForGaps$Number" (1 : Nat)) ∈ lw_all := lw_g (lw_at lw_m2 238 rfl) rfl
theorem q582 : (Jvm.Cond.instanceMethod ({ cls := "GleanersForGaps$Number", name := "<init>", desc := "(I)V" } : Jvm.MethodName)) ∈ lw_all := lw_g (lw_at lw_m3 0 rfl) rfl
theorem q583 : (Jvm.Cond.code ({ cls := "GleanersForGaps$Number", name := "<init>", desc := "(I)V" } : Jvm.MethodName) prog_8_method_1_code (2 : Nat) (Option.none : Option Jvm.ClassFile.FieldType)) ∈ lw_all := lw_g (lw_at lw_m3 1 rfl) rfl
theorem q584 : (Jvm.Cond.methodLinkNest "GleanersForGaps$Number" (1 : Nat) ({ cls := "GleanersForGaps$Node", name := "<init>", desc := "()V" } : Jvm.MethodName) "GleanersForGaps") ∈ lw_tbl := lw_at lw_m3 2 rfl
theorem q585 : (Jvm.Cond.fieldLink "GleanersForGaps$Number" (7 : Nat) "GleanersForGaps$Number" "v" "I") ∈ lw_all := lw_g (lw_at lw_m3 3 rfl) rfl
theorem q586 : (Jvm.Cond.laysFinal "GleanersForGaps$Number" "GleanersForGaps$Number" "v" "I") ∈ lw_all := lw_g (lw_at lw_m3 4 rfl) rfl
theorem q587 : (Jvm.Cond.soleField "GleanersForGaps$Number" "v") ∈ lw_all := lw_g (lw_at lw_m3 5 rfl) rfl
theorem q588 : (Jvm.Cond.superclass "GleanersForGaps$Number" "GleanersForGaps$Node") ∈ lw_all := lw_g (lw_at lw_m3 6 rfl) rfl
theorem q1762 : (Jvm.Cond.castable "GleanersForGaps$Number" "GleanersForGaps$Node") ∈ lw_tbl := lw_at lw_m7 220 rfl
theorem in_X5 : ∀ w ∈ wsX50, w ∈ lw_all := lw_in wsX50 [586] (by decide +kernel) (by decide +kernel)
/-! GleanersForGaps$Name -/
set_option maxRecDepth 100000
def RX6 : String := "GleanersForGaps$Name"
def TX6 : u_T := fun k => match k with
  | 0 => ("GleanersForGaps$Name", "which", "I", true)
  | _ => ("GleanersForGaps$Name", "this$0", "LGleanersForGaps;", true)
def tyX6 : Nat → FieldType := fun k => match k with
  | 0 => .int
  | _ => .object "GleanersForGaps"
abbrev wsX60 : List Cond := u_ws RX6 TX6 2
theorem nmX6 : ∀ a, a < 2 → ∀ b, b < 2 → a ≠ b → (TX6 a).2.1 ≠ (TX6 b).2.1 := by decide +kernel
theorem tyX6_ok : ∀ k, k < 2 → parseFieldDescriptor (TX6 k).2.2.1 = some (tyX6 k) := by decide +kernel
abbrev cX6_worth : ByteArray := prog_6_method_2_code
def yX6_worth : MethodName := ⟨RX6, "worth", "()I"⟩
def dkwX6_worth_3 : List UInt8 := [42, 180, 0, 1, 180, 0, 28, 172, 42, 180, 0, 1, 180, 0, 31, 172, 42, 180, 0, 1, 180, 0, 34, 172]
abbrev dktX6_worth_3 : List UInt8 := dkwX6_worth_3 ++ []
def dkwX6_worth_2 : List UInt8 := [42, 180, 0, 1, 180, 0, 17, 172, 42, 180, 0, 1, 180, 0, 22, 172, 42, 180, 0, 1, 180, 0, 25, 172]
abbrev dktX6_worth_2 : List UInt8 := dkwX6_worth_2 ++ dktX6_worth_3
def dkwX6_worth_1 : List UInt8 := [170, 0, 0, 0, 0, 0, 0, 76, 0, 0, 0, 0, 0, 0, 0, 4, 0, 0, 0, 36, 0, 0, 0, 44, 0, 0, 0, 52, 0, 0, 0, 60, 0, 0, 0, 68]
abbrev dktX6_worth_1 : List UInt8 := dkwX6_worth_1 ++ dktX6_worth_2
def dkwX6_worth_0 : List UInt8 := [42, 180, 0, 13]
abbrev dktX6_worth_0 : List UInt8 := dkwX6_worth_0 ++ dktX6_worth_1
theorem dksX6_worth_0 : cX6_worth.data.toList.drop 0 = dktX6_worth_0 := by decide +kernel
theorem dksX6_worth_1 : cX6_worth.data.toList.drop 4 = dktX6_worth_1 := dk_seg dksX6_worth_0 4 rfl rfl
theorem dksX6_worth_2 : cX6_worth.data.toList.drop 40 = dktX6_worth_2 := dk_seg dksX6_worth_1 36 rfl rfl
theorem dksX6_worth_3 : cX6_worth.data.toList.drop 64 = dktX6_worth_3 := dk_seg dksX6_worth_2 24 rfl rfl
theorem dX6_worth_0 : decode cX6_worth 0 = .ok (.aload_n 0, 1) := dk_42 (dk_at dksX6_worth_0 0 rfl rfl)
theorem dX6_worth_1 : decode cX6_worth 1 = .ok (.getfield 13, 3) := dk_180 0 13 (dk_at dksX6_worth_0 1 rfl rfl)
theorem dX6_worth_4 : decode cX6_worth 4 = .ok (.tableswitch 76 0 4 #[36, 44, 52, 60, 68], 36) := by decide +kernel
theorem dX6_worth_40 : decode cX6_worth 40 = .ok (.aload_n 0, 1) := dk_42 (dk_at dksX6_worth_2 0 rfl rfl)
theorem dX6_worth_41 : decode cX6_worth 41 = .ok (.getfield 1, 3) := dk_180 0 1 (dk_at dksX6_worth_2 1 rfl rfl)
theorem dX6_worth_44 : decode cX6_worth 44 = .ok (.getfield 17, 3) := dk_180 0 17 (dk_at dksX6_worth_2 4 rfl rfl)
theorem dX6_worth_47 : decode cX6_worth 47 = .ok (.ireturn, 1) := dk_172 (dk_at dksX6_worth_2 7 rfl rfl)
theorem dX6_worth_48 : decode cX6_worth 48 = .ok (.aload_n 0, 1) := dk_42 (dk_at dksX6_worth_2 8 rfl rfl)
theorem dX6_worth_49 : decode cX6_worth 49 = .ok (.getfield 1, 3) := dk_180 0 1 (dk_at dksX6_worth_2 9 rfl rfl)
theorem dX6_worth_52 : decode cX6_worth 52 = .ok (.getfield 22, 3) := dk_180 0 22 (dk_at dksX6_worth_2 12 rfl rfl)
theorem dX6_worth_55 : decode cX6_worth 55 = .ok (.ireturn, 1) := dk_172 (dk_at dksX6_worth_2 15 rfl rfl)
theorem dX6_worth_56 : decode cX6_worth 56 = .ok (.aload_n 0, 1) := dk_42 (dk_at dksX6_worth_2 16 rfl rfl)
theorem dX6_worth_57 : decode cX6_worth 57 = .ok (.getfield 1, 3) := dk_180 0 1 (dk_at dksX6_worth_2 17 rfl rfl)
theorem dX6_worth_60 : decode cX6_worth 60 = .ok (.getfield 25, 3) := dk_180 0 25 (dk_at dksX6_worth_2 20 rfl rfl)
theorem dX6_worth_63 : decode cX6_worth 63 = .ok (.ireturn, 1) := dk_172 (dk_at dksX6_worth_2 23 rfl rfl)
theorem dX6_worth_64 : decode cX6_worth 64 = .ok (.aload_n 0, 1) := dk_42 (dk_at dksX6_worth_3 0 rfl rfl)
theorem dX6_worth_65 : decode cX6_worth 65 = .ok (.getfield 1, 3) := dk_180 0 1 (dk_at dksX6_worth_3 1 rfl rfl)
theorem dX6_worth_68 : decode cX6_worth 68 = .ok (.getfield 28, 3) := dk_180 0 28 (dk_at dksX6_worth_3 4 rfl rfl)
theorem dX6_worth_71 : decode cX6_worth 71 = .ok (.ireturn, 1) := dk_172 (dk_at dksX6_worth_3 7 rfl rfl)
theorem dX6_worth_72 : decode cX6_worth 72 = .ok (.aload_n 0, 1) := dk_42 (dk_at dksX6_worth_3 8 rfl rfl)
theorem dX6_worth_73 : decode cX6_worth 73 = .ok (.getfield 1, 3) := dk_180 0 1 (dk_at dksX6_worth_3 9 rfl rfl)
theorem dX6_worth_76 : decode cX6_worth 76 = .ok (.getfield 31, 3) := dk_180 0 31 (dk_at dksX6_worth_3 12 rfl rfl)
theorem dX6_worth_79 : decode cX6_worth 79 = .ok (.ireturn, 1) := dk_172 (dk_at dksX6_worth_3 15 rfl rfl)
theorem dX6_worth_80 : decode cX6_worth 80 = .ok (.aload_n 0, 1) := dk_42 (dk_at dksX6_worth_3 16 rfl rfl)
theorem dX6_worth_81 : decode cX6_worth 81 = .ok (.getfield 1, 3) := dk_180 0 1 (dk_at dksX6_worth_3 17 rfl rfl)
theorem dX6_worth_84 : decode cX6_worth 84 = .ok (.getfield 34, 3) := dk_180 0 34 (dk_at dksX6_worth_3 20 rfl rfl)
theorem dX6_worth_87 : decode cX6_worth 87 = .ok (.ireturn, 1) := dk_172 (dk_at dksX6_worth_3 23 rfl rfl)
abbrev cX6_init : ByteArray := prog_6_method_1_code
def yX6_init : MethodName := ⟨RX6, "<init>", "(LGleanersForGaps;I)V"⟩
def dkwX6_init_0 : List UInt8 := [42, 43, 181, 0, 1, 42, 183, 0, 7, 42, 28, 181, 0, 13, 177]
abbrev dktX6_init_0 : List UInt8 := dkwX6_init_0 ++ []
theorem dksX6_init_0 : cX6_init.data.toList.drop 0 = dktX6_init_0 := by decide +kernel
theorem dX6_init_0 : decode cX6_init 0 = .ok (.aload_n 0, 1) := dk_42 (dk_at dksX6_init_0 0 rfl rfl)
theorem dX6_init_1 : decode cX6_init 1 = .ok (.aload_n 1, 1) := dk_43 (dk_at dksX6_init_0 1 rfl rfl)
theorem dX6_init_2 : decode cX6_init 2 = .ok (.putfield 1, 3) := dk_181 0 1 (dk_at dksX6_init_0 2 rfl rfl)
theorem dX6_init_5 : decode cX6_init 5 = .ok (.aload_n 0, 1) := dk_42 (dk_at dksX6_init_0 5 rfl rfl)
theorem dX6_init_6 : decode cX6_init 6 = .ok (.invokespecial 7, 3) := dk_183 0 7 (dk_at dksX6_init_0 6 rfl rfl)
theorem dX6_init_9 : decode cX6_init 9 = .ok (.aload_n 0, 1) := dk_42 (dk_at dksX6_init_0 9 rfl rfl)
theorem dX6_init_10 : decode cX6_init 10 = .ok (.iload_n 2, 1) := dk_28 (dk_at dksX6_init_0 10 rfl rfl)
theorem dX6_init_11 : decode cX6_init 11 = .ok (.putfield 13, 3) := dk_181 0 13 (dk_at dksX6_init_0 11 rfl rfl)
theorem dX6_init_14 : decode cX6_init 14 = .ok (.return_, 1) := dk_177 (dk_at dksX6_init_0 14 rfl rfl)
theorem q118 : (Jvm.Cond.initialized "GleanersForGaps$Name") ∈ lw_all := lw_g (lw_at lw_m1 16 rfl) rfl
theorem q291 : (Jvm.Cond.selects "GleanersForGaps$Name" ({ cls := "GleanersForGaps$Node", name := "worth", desc := "()I" } : Jvm.MethodName) ({ cls := "GleanersForGaps$Name", name := "worth", desc := "()I" } : Jvm.MethodName)) ∈ lw_all := lw_g (lw_at lw_m1 189 rfl) rfl
theorem q292 : (Jvm.Cond.instanceMethod ({ cls := "GleanersForGaps$Name", name := "worth", desc := "()I" } : Jvm.MethodName)) ∈ lw_all := lw_g (lw_at lw_m1 190 rfl) rfl
theorem q293 : (Jvm.Cond.code ({ cls := "GleanersForGaps$Name", name := "worth", desc := "()I" } : Jvm.MethodName) prog_6_method_2_code (1 : Nat) (Option.some Jvm.ClassFile.FieldType.int)) ∈ lw_all := lw_g (lw_at lw_m1 191 rfl) rfl
theorem q590 : (Jvm.Cond.instantiable "GleanersForGaps$Name" (2 : Nat)) ∈ lw_all := lw_g (lw_at lw_m3 8 rfl) rfl
theorem q592 : (Jvm.Cond.instanceMethod ({ cls := "GleanersForGaps$Name", name := "<init>", desc := "(LGleanersForGaps;I)V" } : Jvm.MethodName)) ∈ lw_all := lw_g (lw_at lw_m3 10 rfl) rfl
theorem q593 : (Jvm.Cond.code ({ cls := "GleanersForGaps$Name", name := "<init>", desc := "(LGleanersForGaps;I)V" } : Jvm.MethodName) prog_6_method_1_code (3 : Nat) (Option.none : Option Jvm.ClassFile.FieldType)) ∈ lw_all := lw_g (lw_at lw_m3 11 rfl) rfl
theorem q594 : (Jvm.Cond.methodLinkNest "GleanersForGaps$Name" (7 : Nat) ({ cls := "GleanersForGaps$Node", name := "<init>", desc := "()V" } : Jvm.MethodName) "GleanersForGaps") ∈ lw_tbl := lw_at lw_m3 12 rfl
theorem q595 : (Jvm.Cond.fieldLink "GleanersForGaps$Name" (13 : Nat) "GleanersForGaps$Name" "which" "I") ∈ lw_all := lw_g (lw_at lw_m3 13 rfl) rfl
theorem q596 : (Jvm.Cond.fieldLink "GleanersForGaps$Name" (1 : Nat) "GleanersForGaps$Name" "this$0" "LGleanersForGaps;") ∈ lw_all := lw_g (lw_at lw_m3 14 rfl) rfl
theorem q597 : (Jvm.Cond.laysFinal "GleanersForGaps$Name" "GleanersForGaps$Name" "which" "I") ∈ lw_all := lw_g (lw_at lw_m3 15 rfl) rfl
theorem q598 : (Jvm.Cond.soleField "GleanersForGaps$Name" "which") ∈ lw_all := lw_g (lw_at lw_m3 16 rfl) rfl
theorem q599 : (Jvm.Cond.laysFinal "GleanersForGaps$Name" "GleanersForGaps$Name" "this$0" "LGleanersForGaps;") ∈ lw_all := lw_g (lw_at lw_m3 17 rfl) rfl
theorem q600 : (Jvm.Cond.soleField "GleanersForGaps$Name" "this$0") ∈ lw_all := lw_g (lw_at lw_m3 18 rfl) rfl
theorem q601 : (Jvm.Cond.superclass "GleanersForGaps$Name" "GleanersForGaps$Node") ∈ lw_all := lw_g (lw_at lw_m3 19 rfl) rfl
theorem q746 : (Jvm.Cond.fieldLinkNest "GleanersForGaps$Name" (28 : Nat) "GleanersForGaps" "night" "I" "GleanersForGaps") ∈ lw_tbl := lw_at lw_m3 164 rfl
theorem q752 : (Jvm.Cond.fieldLinkNest "GleanersForGaps$Name" (17 : Nat) "GleanersForGaps" "forGap" "I" "GleanersForGaps") ∈ lw_tbl := lw_at lw_m3 170 rfl
theorem q754 : (Jvm.Cond.fieldLinkNest "GleanersForGaps$Name" (22 : Nat) "GleanersForGaps" "forNth" "I" "GleanersForGaps") ∈ lw_tbl := lw_at lw_m3 172 rfl
theorem q756 : (Jvm.Cond.fieldLinkNest "GleanersForGaps$Name" (25 : Nat) "GleanersForGaps" "forNumber" "I" "GleanersForGaps") ∈ lw_tbl := lw_at lw_m3 174 rfl
theorem q758 : (Jvm.Cond.fieldLinkNest "GleanersForGaps$Name" (31 : Nat) "GleanersForGaps" "forApron" "I" "GleanersForGaps") ∈ lw_tbl := lw_at lw_m3 176 rfl
theorem q760 : (Jvm.Cond.fieldLinkNest "GleanersForGaps$Name" (34 : Nat) "GleanersForGaps" "forRow" "I" "GleanersForGaps") ∈ lw_tbl := lw_at lw_m3 178 rfl
theorem q1763 : (Jvm.Cond.castable "GleanersForGaps$Name" "GleanersForGaps$Node") ∈ lw_tbl := lw_at lw_m7 221 rfl
theorem in_X6 : ∀ w ∈ wsX60, w ∈ lw_all := lw_in wsX60 [597, 599] (by decide +kernel) (by decide +kernel)
/-! GleanersForGaps$Two -/
set_option maxRecDepth 100000
def RX7 : String := "GleanersForGaps$Two"
def TX7 : u_T := fun k => match k with
  | 0 => ("GleanersForGaps$Two", "sign", "I", true)
  | 1 => ("GleanersForGaps$Two", "a", "LGleanersForGaps$Node;", true)
  | _ => ("GleanersForGaps$Two", "b", "LGleanersForGaps$Node;", true)
def tyX7 : Nat → FieldType := fun k => match k with
  | 0 => .int
  | 1 => .object "GleanersForGaps$Node"
  | _ => .object "GleanersForGaps$Node"
abbrev wsX70 : List Cond := u_ws RX7 TX7 3
theorem nmX7 : ∀ a, a < 3 → ∀ b, b < 3 → a ≠ b → (TX7 a).2.1 ≠ (TX7 b).2.1 := by decide +kernel
theorem tyX7_ok : ∀ k, k < 3 → parseFieldDescriptor (TX7 k).2.2.1 = some (tyX7 k) := by decide +kernel
abbrev cX7_worth : ByteArray := prog_13_method_2_code
def yX7_worth : MethodName := ⟨RX7, "worth", "()I"⟩
def dkwX7_worth_4 : List UInt8 := [27, 154, 0, 7, 28, 153, 0, 7, 4, 167, 0, 4, 3, 172]
abbrev dktX7_worth_4 : List UInt8 := dkwX7_worth_4 ++ []
def dkwX7_worth_3 : List UInt8 := [28, 160, 0, 7, 4, 167, 0, 4, 3, 172, 27, 153, 0, 11, 28, 153, 0, 7, 4, 167, 0, 4, 3, 172]
abbrev dktX7_worth_3 : List UInt8 := dkwX7_worth_3 ++ dktX7_worth_4
def dkwX7_worth_2 : List UInt8 := [27, 28, 96, 172, 27, 28, 100, 172, 27, 28, 104, 172, 27, 28, 162, 0, 7, 4, 167, 0, 4, 3, 172, 27]
abbrev dktX7_worth_2 : List UInt8 := dkwX7_worth_2 ++ dktX7_worth_3
def dkwX7_worth_1 : List UInt8 := [171, 0, 0, 0, 0, 0, 0, 108, 0, 0, 0, 6, 0, 0, 0, 38, 0, 0, 0, 94, 0, 0, 0, 42, 0, 0, 0, 68, 0, 0, 0, 43, 0, 0, 0, 60, 0, 0, 0, 45, 0, 0, 0, 64, 0, 0, 0, 60, 0, 0, 0, 72, 0, 0, 0, 61, 0, 0, 0, 83]
abbrev dktX7_worth_1 : List UInt8 := dkwX7_worth_1 ++ dktX7_worth_2
def dkwX7_worth_0 : List UInt8 := [42, 180, 0, 13, 182, 0, 20, 60, 42, 180, 0, 17, 182, 0, 20, 61, 42, 180, 0, 7]
abbrev dktX7_worth_0 : List UInt8 := dkwX7_worth_0 ++ dktX7_worth_1
theorem dksX7_worth_0 : cX7_worth.data.toList.drop 0 = dktX7_worth_0 := by decide +kernel
theorem dksX7_worth_1 : cX7_worth.data.toList.drop 20 = dktX7_worth_1 := dk_seg dksX7_worth_0 20 rfl rfl
theorem dksX7_worth_2 : cX7_worth.data.toList.drop 80 = dktX7_worth_2 := dk_seg dksX7_worth_1 60 rfl rfl
theorem dksX7_worth_3 : cX7_worth.data.toList.drop 104 = dktX7_worth_3 := dk_seg dksX7_worth_2 24 rfl rfl
theorem dksX7_worth_4 : cX7_worth.data.toList.drop 128 = dktX7_worth_4 := dk_seg dksX7_worth_3 24 rfl rfl
theorem dX7_worth_0 : decode cX7_worth 0 = .ok (.aload_n 0, 1) := dk_42 (dk_at dksX7_worth_0 0 rfl rfl)
theorem dX7_worth_1 : decode cX7_worth 1 = .ok (.getfield 13, 3) := dk_180 0 13 (dk_at dksX7_worth_0 1 rfl rfl)
theorem dX7_worth_4 : decode cX7_worth 4 = .ok (.invokevirtual 20, 3) := dk_182 0 20 (dk_at dksX7_worth_0 4 rfl rfl)
theorem dX7_worth_7 : decode cX7_worth 7 = .ok (.istore_n 1, 1) := dk_60 (dk_at dksX7_worth_0 7 rfl rfl)
theorem dX7_worth_8 : decode cX7_worth 8 = .ok (.aload_n 0, 1) := dk_42 (dk_at dksX7_worth_0 8 rfl rfl)
theorem dX7_worth_9 : decode cX7_worth 9 = .ok (.getfield 17, 3) := dk_180 0 17 (dk_at dksX7_worth_0 9 rfl rfl)
theorem dX7_worth_12 : decode cX7_worth 12 = .ok (.invokevirtual 20, 3) := dk_182 0 20 (dk_at dksX7_worth_0 12 rfl rfl)
theorem dX7_worth_15 : decode cX7_worth 15 = .ok (.istore_n 2, 1) := dk_61 (dk_at dksX7_worth_0 15 rfl rfl)
theorem dX7_worth_16 : decode cX7_worth 16 = .ok (.aload_n 0, 1) := dk_42 (dk_at dksX7_worth_0 16 rfl rfl)
theorem dX7_worth_17 : decode cX7_worth 17 = .ok (.getfield 7, 3) := dk_180 0 7 (dk_at dksX7_worth_0 17 rfl rfl)
theorem dX7_worth_20 : decode cX7_worth 20 = .ok (.lookupswitch 108 #[(38, 94), (42, 68), (43, 60), (45, 64), (60, 72), (61, 83)], 60) := by decide +kernel
theorem dX7_worth_80 : decode cX7_worth 80 = .ok (.iload_n 1, 1) := dk_27 (dk_at dksX7_worth_2 0 rfl rfl)
theorem dX7_worth_81 : decode cX7_worth 81 = .ok (.iload_n 2, 1) := dk_28 (dk_at dksX7_worth_2 1 rfl rfl)
theorem dX7_worth_82 : decode cX7_worth 82 = .ok (.iadd, 1) := dk_96 (dk_at dksX7_worth_2 2 rfl rfl)
theorem dX7_worth_83 : decode cX7_worth 83 = .ok (.ireturn, 1) := dk_172 (dk_at dksX7_worth_2 3 rfl rfl)
theorem dX7_worth_84 : decode cX7_worth 84 = .ok (.iload_n 1, 1) := dk_27 (dk_at dksX7_worth_2 4 rfl rfl)
theorem dX7_worth_85 : decode cX7_worth 85 = .ok (.iload_n 2, 1) := dk_28 (dk_at dksX7_worth_2 5 rfl rfl)
theorem dX7_worth_86 : decode cX7_worth 86 = .ok (.isub, 1) := dk_100 (dk_at dksX7_worth_2 6 rfl rfl)
theorem dX7_worth_87 : decode cX7_worth 87 = .ok (.ireturn, 1) := dk_172 (dk_at dksX7_worth_2 7 rfl rfl)
theorem dX7_worth_88 : decode cX7_worth 88 = .ok (.iload_n 1, 1) := dk_27 (dk_at dksX7_worth_2 8 rfl rfl)
theorem dX7_worth_89 : decode cX7_worth 89 = .ok (.iload_n 2, 1) := dk_28 (dk_at dksX7_worth_2 9 rfl rfl)
theorem dX7_worth_90 : decode cX7_worth 90 = .ok (.imul, 1) := dk_104 (dk_at dksX7_worth_2 10 rfl rfl)
theorem dX7_worth_91 : decode cX7_worth 91 = .ok (.ireturn, 1) := dk_172 (dk_at dksX7_worth_2 11 rfl rfl)
theorem dX7_worth_92 : decode cX7_worth 92 = .ok (.iload_n 1, 1) := dk_27 (dk_at dksX7_worth_2 12 rfl rfl)
theorem dX7_worth_93 : decode cX7_worth 93 = .ok (.iload_n 2, 1) := dk_28 (dk_at dksX7_worth_2 13 rfl rfl)
theorem dX7_worth_94 : decode cX7_worth 94 = .ok (.if_icmp .ge 7, 3) := dk_162 0 7 (dk_at dksX7_worth_2 14 rfl rfl)
theorem dX7_worth_97 : decode cX7_worth 97 = .ok (.iconst 1, 1) := dk_4 (dk_at dksX7_worth_2 17 rfl rfl)
theorem dX7_worth_98 : decode cX7_worth 98 = .ok (.goto 4, 3) := dk_167 0 4 (dk_at dksX7_worth_2 18 rfl rfl)
theorem dX7_worth_101 : decode cX7_worth 101 = .ok (.iconst 0, 1) := dk_3 (dk_at dksX7_worth_2 21 rfl rfl)
theorem dX7_worth_102 : decode cX7_worth 102 = .ok (.ireturn, 1) := dk_172 (dk_at dksX7_worth_2 22 rfl rfl)
theorem dX7_worth_103 : decode cX7_worth 103 = .ok (.iload_n 1, 1) := dk_27 (dk_at dksX7_worth_2 23 rfl rfl)
theorem dX7_worth_104 : decode cX7_worth 104 = .ok (.iload_n 2, 1) := dk_28 (dk_at dksX7_worth_3 0 rfl rfl)
theorem dX7_worth_105 : decode cX7_worth 105 = .ok (.if_icmp .ne 7, 3) := dk_160 0 7 (dk_at dksX7_worth_3 1 rfl rfl)
theorem dX7_worth_108 : decode cX7_worth 108 = .ok (.iconst 1, 1) := dk_4 (dk_at dksX7_worth_3 4 rfl rfl)
theorem dX7_worth_109 : decode cX7_worth 109 = .ok (.goto 4, 3) := dk_167 0 4 (dk_at dksX7_worth_3 5 rfl rfl)
theorem dX7_worth_112 : decode cX7_worth 112 = .ok (.iconst 0, 1) := dk_3 (dk_at dksX7_worth_3 8 rfl rfl)
theorem dX7_worth_113 : decode cX7_worth 113 = .ok (.ireturn, 1) := dk_172 (dk_at dksX7_worth_3 9 rfl rfl)
theorem dX7_worth_114 : decode cX7_worth 114 = .ok (.iload_n 1, 1) := dk_27 (dk_at dksX7_worth_3 10 rfl rfl)
theorem dX7_worth_115 : decode cX7_worth 115 = .ok (.ifCond .eq 11, 3) := dk_153 0 11 (dk_at dksX7_worth_3 11 rfl rfl)
theorem dX7_worth_118 : decode cX7_worth 118 = .ok (.iload_n 2, 1) := dk_28 (dk_at dksX7_worth_3 14 rfl rfl)
theorem dX7_worth_119 : decode cX7_worth 119 = .ok (.ifCond .eq 7, 3) := dk_153 0 7 (dk_at dksX7_worth_3 15 rfl rfl)
theorem dX7_worth_122 : decode cX7_worth 122 = .ok (.iconst 1, 1) := dk_4 (dk_at dksX7_worth_3 18 rfl rfl)
theorem dX7_worth_123 : decode cX7_worth 123 = .ok (.goto 4, 3) := dk_167 0 4 (dk_at dksX7_worth_3 19 rfl rfl)
theorem dX7_worth_126 : decode cX7_worth 126 = .ok (.iconst 0, 1) := dk_3 (dk_at dksX7_worth_3 22 rfl rfl)
theorem dX7_worth_127 : decode cX7_worth 127 = .ok (.ireturn, 1) := dk_172 (dk_at dksX7_worth_3 23 rfl rfl)
theorem dX7_worth_128 : decode cX7_worth 128 = .ok (.iload_n 1, 1) := dk_27 (dk_at dksX7_worth_4 0 rfl rfl)
theorem dX7_worth_129 : decode cX7_worth 129 = .ok (.ifCond .ne 7, 3) := dk_154 0 7 (dk_at dksX7_worth_4 1 rfl rfl)
theorem dX7_worth_132 : decode cX7_worth 132 = .ok (.iload_n 2, 1) := dk_28 (dk_at dksX7_worth_4 4 rfl rfl)
theorem dX7_worth_133 : decode cX7_worth 133 = .ok (.ifCond .eq 7, 3) := dk_153 0 7 (dk_at dksX7_worth_4 5 rfl rfl)
theorem dX7_worth_136 : decode cX7_worth 136 = .ok (.iconst 1, 1) := dk_4 (dk_at dksX7_worth_4 8 rfl rfl)
theorem dX7_worth_137 : decode cX7_worth 137 = .ok (.goto 4, 3) := dk_167 0 4 (dk_at dksX7_worth_4 9 rfl rfl)
theorem dX7_worth_140 : decode cX7_worth 140 = .ok (.iconst 0, 1) := dk_3 (dk_at dksX7_worth_4 12 rfl rfl)
theorem dX7_worth_141 : decode cX7_worth 141 = .ok (.ireturn, 1) := dk_172 (dk_at dksX7_worth_4 13 rfl rfl)
abbrev cX7_init : ByteArray := prog_13_method_1_code
def yX7_init : MethodName := ⟨RX7, "<init>", "(ILGleanersForGaps$Node;LGleanersForGaps$Node;)V"⟩
def dkwX7_init_0 : List UInt8 := [42, 183, 0, 1, 42, 27, 181, 0, 7, 42, 44, 181, 0, 13, 42, 45, 181, 0, 17, 177]
abbrev dktX7_init_0 : List UInt8 := dkwX7_init_0 ++ []
theorem dksX7_init_0 : cX7_init.data.toList.drop 0 = dktX7_init_0 := by decide +kernel
theorem dX7_init_0 : decode cX7_init 0 = .ok (.aload_n 0, 1) := dk_42 (dk_at dksX7_init_0 0 rfl rfl)
theorem dX7_init_1 : decode cX7_init 1 = .ok (.invokespecial 1, 3) := dk_183 0 1 (dk_at dksX7_init_0 1 rfl rfl)
theorem dX7_init_4 : decode cX7_init 4 = .ok (.aload_n 0, 1) := dk_42 (dk_at dksX7_init_0 4 rfl rfl)
theorem dX7_init_5 : decode cX7_init 5 = .ok (.iload_n 1, 1) := dk_27 (dk_at dksX7_init_0 5 rfl rfl)
theorem dX7_init_6 : decode cX7_init 6 = .ok (.putfield 7, 3) := dk_181 0 7 (dk_at dksX7_init_0 6 rfl rfl)
theorem dX7_init_9 : decode cX7_init 9 = .ok (.aload_n 0, 1) := dk_42 (dk_at dksX7_init_0 9 rfl rfl)
theorem dX7_init_10 : decode cX7_init 10 = .ok (.aload_n 2, 1) := dk_44 (dk_at dksX7_init_0 10 rfl rfl)
theorem dX7_init_11 : decode cX7_init 11 = .ok (.putfield 13, 3) := dk_181 0 13 (dk_at dksX7_init_0 11 rfl rfl)
theorem dX7_init_14 : decode cX7_init 14 = .ok (.aload_n 0, 1) := dk_42 (dk_at dksX7_init_0 14 rfl rfl)
theorem dX7_init_15 : decode cX7_init 15 = .ok (.aload_n 3, 1) := dk_45 (dk_at dksX7_init_0 15 rfl rfl)
theorem dX7_init_16 : decode cX7_init 16 = .ok (.putfield 17, 3) := dk_181 0 17 (dk_at dksX7_init_0 16 rfl rfl)
theorem dX7_init_19 : decode cX7_init 19 = .ok (.return_, 1) := dk_177 (dk_at dksX7_init_0 19 rfl rfl)
theorem q119 : (Jvm.Cond.initialized "GleanersForGaps$Two") ∈ lw_all := lw_g (lw_at lw_m1 17 rfl) rfl
theorem q301 : (Jvm.Cond.instanceMethod ({ cls := "GleanersForGaps$Two", name := "worth", desc := "()I" } : Jvm.MethodName)) ∈ lw_all := lw_g (lw_at lw_m1 199 rfl) rfl
theorem q302 : (Jvm.Cond.code ({ cls := "GleanersForGaps$Two", name := "worth", desc := "()I" } : Jvm.MethodName) prog_13_method_2_code (3 : Nat) (Option.some Jvm.ClassFile.FieldType.int)) ∈ lw_all := lw_g (lw_at lw_m1 200 rfl) rfl
theorem q303 : (Jvm.Cond.methodLink "GleanersForGaps$Two" (20 : Nat) ({ cls := "GleanersForGaps$Node", name := "worth", desc := "()I" } : Jvm.MethodName)) ∈ lw_all := lw_g (lw_at lw_m1 201 rfl) rfl
theorem q304 : (Jvm.Cond.selects "GleanersForGaps$Two" ({ cls := "GleanersForGaps$Node", name := "worth", desc := "()I" } : Jvm.MethodName) ({ cls := "GleanersForGaps$Two", name := "worth", desc := "()I" } : Jvm.MethodName)) ∈ lw_all := lw_g (lw_at lw_m1 202 rfl) rfl
theorem q607 : (Jvm.Cond.instantiable "GleanersForGaps$Two" (3 : Nat)) ∈ lw_all := lw_g (lw_at lw_m3 25 rfl) rfl
theorem q609 : (Jvm.Cond.instanceMethod ({ cls := "GleanersForGaps$Two", name := "<init>", desc := "(ILGleanersForGaps$Node;LGleanersForGaps$Node;)V" } : Jvm.MethodName)) ∈ lw_all := lw_g (lw_at lw_m3 27 rfl) rfl
theorem q610 : (Jvm.Cond.code ({ cls := "GleanersForGaps$Two", name := "<init>", desc := "(ILGleanersForGaps$Node;LGleanersForGaps$Node;)V" } : Jvm.MethodName) prog_13_method_1_code (4 : Nat) (Option.none : Option Jvm.ClassFile.FieldType)) ∈ lw_all := lw_g (lw_at lw_m3 28 rfl) rfl
theorem q611 : (Jvm.Cond.methodLinkNest "GleanersForGaps$Two" (1 : Nat) ({ cls := "GleanersForGaps$Node", name := "<init>", desc := "()V" } : Jvm.MethodName) "GleanersForGaps") ∈ lw_tbl := lw_at lw_m3 29 rfl
theorem q612 : (Jvm.Cond.fieldLink "GleanersForGaps$Two" (7 : Nat) "GleanersForGaps$Two" "sign" "I") ∈ lw_all := lw_g (lw_at lw_m3 30 rfl) rfl
theorem q613 : (Jvm.Cond.fieldLink "GleanersForGaps$Two" (13 : Nat) "GleanersForGaps$Two" "a" "LGleanersForGaps$Node;") ∈ lw_all := lw_g (lw_at lw_m3 31 rfl) rfl
theorem q614 : (Jvm.Cond.fieldLink "GleanersForGaps$Two" (17 : Nat) "GleanersForGaps$Two" "b" "LGleanersForGaps$Node;") ∈ lw_all := lw_g (lw_at lw_m3 32 rfl) rfl
theorem q615 : (Jvm.Cond.laysFinal "GleanersForGaps$Two" "GleanersForGaps$Two" "sign" "I") ∈ lw_all := lw_g (lw_at lw_m3 33 rfl) rfl
theorem q616 : (Jvm.Cond.soleField "GleanersForGaps$Two" "sign") ∈ lw_all := lw_g (lw_at lw_m3 34 rfl) rfl
theorem q617 : (Jvm.Cond.laysFinal "GleanersForGaps$Two" "GleanersForGaps$Two" "a" "LGleanersForGaps$Node;") ∈ lw_all := lw_g (lw_at lw_m3 35 rfl) rfl
theorem q618 : (Jvm.Cond.soleField "GleanersForGaps$Two" "a") ∈ lw_all := lw_g (lw_at lw_m3 36 rfl) rfl
theorem q619 : (Jvm.Cond.laysFinal "GleanersForGaps$Two" "GleanersForGaps$Two" "b" "LGleanersForGaps$Node;") ∈ lw_all := lw_g (lw_at lw_m3 37 rfl) rfl
theorem q620 : (Jvm.Cond.soleField "GleanersForGaps$Two" "b") ∈ lw_all := lw_g (lw_at lw_m3 38 rfl) rfl
theorem q621 : (Jvm.Cond.superclass "GleanersForGaps$Two" "GleanersForGaps$Node") ∈ lw_all := lw_g (lw_at lw_m3 39 rfl) rfl
theorem q1764 : (Jvm.Cond.castable "GleanersForGaps$Two" "GleanersForGaps$Node") ∈ lw_tbl := lw_at lw_m7 222 rfl
theorem in_X7 : ∀ w ∈ wsX70, w ∈ lw_all := lw_in wsX70 [615, 617, 619] (by decide +kernel) (by decide +kernel)
/-! GleanersForGaps$Gleaner -/
set_option maxRecDepth 100000
def RX9 : String := "GleanersForGaps$Gleaner"
def TX9 : u_T := fun k => match k with
  | 0 => ("GleanersForGaps$Gleaner", "number", "I", false)
  | _ => ("GleanersForGaps$Gleaner", "apron", "I", false)
def tyX9 : Nat → FieldType := fun k => match k with
  | 0 => .int
  | _ => .int
abbrev wsX90 : List Cond := u_ws RX9 TX9 2
theorem nmX9 : ∀ a, a < 2 → ∀ b, b < 2 → a ≠ b → (TX9 a).2.1 ≠ (TX9 b).2.1 := by decide +kernel
theorem tyX9_ok : ∀ k, k < 2 → parseFieldDescriptor (TX9 k).2.2.1 = some (tyX9 k) := by decide +kernel
abbrev cX9_init : ByteArray := prog_4_method_1_code
def yX9_init : MethodName := ⟨RX9, "<init>", "(I)V"⟩
def dkwX9_init_0 : List UInt8 := [42, 183, 0, 1, 42, 27, 181, 0, 7, 177]
abbrev dktX9_init_0 : List UInt8 := dkwX9_init_0 ++ []
theorem dksX9_init_0 : cX9_init.data.toList.drop 0 = dktX9_init_0 := by decide +kernel
theorem dX9_init_0 : decode cX9_init 0 = .ok (.aload_n 0, 1) := dk_42 (dk_at dksX9_init_0 0 rfl rfl)
theorem dX9_init_1 : decode cX9_init 1 = .ok (.invokespecial 1, 3) := dk_183 0 1 (dk_at dksX9_init_0 1 rfl rfl)
theorem dX9_init_4 : decode cX9_init 4 = .ok (.aload_n 0, 1) := dk_42 (dk_at dksX9_init_0 4 rfl rfl)
theorem dX9_init_5 : decode cX9_init 5 = .ok (.iload_n 1, 1) := dk_27 (dk_at dksX9_init_0 5 rfl rfl)
theorem dX9_init_6 : decode cX9_init 6 = .ok (.putfield 7, 3) := dk_181 0 7 (dk_at dksX9_init_0 6 rfl rfl)
theorem dX9_init_9 : decode cX9_init 9 = .ok (.return_, 1) := dk_177 (dk_at dksX9_init_0 9 rfl rfl)
abbrev cX9_kind : ByteArray := prog_4_method_2_code
def yX9_kind : MethodName := ⟨RX9, "kind", "()I"⟩
theorem dX9_kind_0 : decode cX9_kind 0 = .ok (.iconst 0, 1) := by decide +kernel
theorem dX9_kind_1 : decode cX9_kind 1 = .ok (.ireturn, 1) := by decide +kernel
abbrev cX9_keeps : ByteArray := prog_4_method_4_code
def yX9_keeps : MethodName := ⟨RX9, "keeps", "(I)I"⟩
def dkwX9_keeps_0 : List UInt8 := [42, 180, 0, 13, 27, 104, 16, 100, 108, 172]
abbrev dktX9_keeps_0 : List UInt8 := dkwX9_keeps_0 ++ []
theorem dksX9_keeps_0 : cX9_keeps.data.toList.drop 0 = dktX9_keeps_0 := by decide +kernel
theorem dX9_keeps_0 : decode cX9_keeps 0 = .ok (.aload_n 0, 1) := dk_42 (dk_at dksX9_keeps_0 0 rfl rfl)
theorem dX9_keeps_1 : decode cX9_keeps 1 = .ok (.getfield 13, 3) := dk_180 0 13 (dk_at dksX9_keeps_0 1 rfl rfl)
theorem dX9_keeps_4 : decode cX9_keeps 4 = .ok (.iload_n 1, 1) := dk_27 (dk_at dksX9_keeps_0 4 rfl rfl)
theorem dX9_keeps_5 : decode cX9_keeps 5 = .ok (.imul, 1) := dk_104 (dk_at dksX9_keeps_0 5 rfl rfl)
theorem dX9_keeps_6 : decode cX9_keeps 6 = .ok (.bipush 100, 2) := dk_16 100 (dk_at dksX9_keeps_0 6 rfl rfl)
theorem dX9_keeps_8 : decode cX9_keeps 8 = .ok (.idiv, 1) := dk_108 (dk_at dksX9_keeps_0 8 rfl rfl)
theorem dX9_keeps_9 : decode cX9_keeps 9 = .ok (.ireturn, 1) := dk_172 (dk_at dksX9_keeps_0 9 rfl rfl)
abbrev cX9_taking : ByteArray := prog_4_method_5_code
def yX9_taking : MethodName := ⟨RX9, "taking", "(II)I"⟩
def dkwX9_taking_0 : List UInt8 := [42, 27, 28, 182, 0, 16, 62, 29, 156, 0, 7, 29, 167, 0, 8, 29, 28, 184, 0, 20, 172]
abbrev dktX9_taking_0 : List UInt8 := dkwX9_taking_0 ++ []
theorem dksX9_taking_0 : cX9_taking.data.toList.drop 0 = dktX9_taking_0 := by decide +kernel
theorem dX9_taking_0 : decode cX9_taking 0 = .ok (.aload_n 0, 1) := dk_42 (dk_at dksX9_taking_0 0 rfl rfl)
theorem dX9_taking_1 : decode cX9_taking 1 = .ok (.iload_n 1, 1) := dk_27 (dk_at dksX9_taking_0 1 rfl rfl)
theorem dX9_taking_2 : decode cX9_taking 2 = .ok (.iload_n 2, 1) := dk_28 (dk_at dksX9_taking_0 2 rfl rfl)
theorem dX9_taking_3 : decode cX9_taking 3 = .ok (.invokevirtual 16, 3) := dk_182 0 16 (dk_at dksX9_taking_0 3 rfl rfl)
theorem dX9_taking_6 : decode cX9_taking 6 = .ok (.istore_n 3, 1) := dk_62 (dk_at dksX9_taking_0 6 rfl rfl)
theorem dX9_taking_7 : decode cX9_taking 7 = .ok (.iload_n 3, 1) := dk_29 (dk_at dksX9_taking_0 7 rfl rfl)
theorem dX9_taking_8 : decode cX9_taking 8 = .ok (.ifCond .ge 7, 3) := dk_156 0 7 (dk_at dksX9_taking_0 8 rfl rfl)
theorem dX9_taking_11 : decode cX9_taking 11 = .ok (.iload_n 3, 1) := dk_29 (dk_at dksX9_taking_0 11 rfl rfl)
theorem dX9_taking_12 : decode cX9_taking 12 = .ok (.goto 8, 3) := dk_167 0 8 (dk_at dksX9_taking_0 12 rfl rfl)
theorem dX9_taking_15 : decode cX9_taking 15 = .ok (.iload_n 3, 1) := dk_29 (dk_at dksX9_taking_0 15 rfl rfl)
theorem dX9_taking_16 : decode cX9_taking 16 = .ok (.iload_n 2, 1) := dk_28 (dk_at dksX9_taking_0 16 rfl rfl)
theorem dX9_taking_17 : decode cX9_taking 17 = .ok (.invokestatic 20, 3) := dk_184 0 20 (dk_at dksX9_taking_0 17 rfl rfl)
theorem dX9_taking_20 : decode cX9_taking 20 = .ok (.ireturn, 1) := dk_172 (dk_at dksX9_taking_0 20 rfl rfl)
abbrev cX9_takes : ByteArray := prog_4_method_3_code
def yX9_takes : MethodName := ⟨RX9, "takes", "(II)I"⟩
theorem dX9_takes_0 : decode cX9_takes 0 = .ok (.iload_n 1, 1) := by decide +kernel
theorem dX9_takes_1 : decode cX9_takes 1 = .ok (.ireturn, 1) := by decide +kernel
abbrev cX9_like : ByteArray := prog_4_method_6_code
def yX9_like : MethodName := ⟨RX9, "like", "(LGleanersForGaps$Gleaner;)LGleanersForGaps$Gleaner;"⟩
def dkwX9_like_0 : List UInt8 := [42, 43, 180, 0, 13, 181, 0, 13, 42, 176]
abbrev dktX9_like_0 : List UInt8 := dkwX9_like_0 ++ []
theorem dksX9_like_0 : cX9_like.data.toList.drop 0 = dktX9_like_0 := by decide +kernel
theorem dX9_like_0 : decode cX9_like 0 = .ok (.aload_n 0, 1) := dk_42 (dk_at dksX9_like_0 0 rfl rfl)
theorem dX9_like_1 : decode cX9_like 1 = .ok (.aload_n 1, 1) := dk_43 (dk_at dksX9_like_0 1 rfl rfl)
theorem dX9_like_2 : decode cX9_like 2 = .ok (.getfield 13, 3) := dk_180 0 13 (dk_at dksX9_like_0 2 rfl rfl)
theorem dX9_like_5 : decode cX9_like 5 = .ok (.putfield 13, 3) := dk_181 0 13 (dk_at dksX9_like_0 5 rfl rfl)
theorem dX9_like_8 : decode cX9_like 8 = .ok (.aload_n 0, 1) := dk_42 (dk_at dksX9_like_0 8 rfl rfl)
theorem dX9_like_9 : decode cX9_like 9 = .ok (.areturn, 1) := dk_176 (dk_at dksX9_like_0 9 rfl rfl)
theorem q122 : (Jvm.Cond.initialized "GleanersForGaps$Gleaner") ∈ lw_all := lw_g (lw_at lw_m1 20 rfl) rfl
theorem q152 : (Jvm.Cond.instanceMethod ({ cls := "GleanersForGaps$Gleaner", name := "<init>", desc := "(I)V" } : Jvm.MethodName)) ∈ lw_all := lw_g (lw_at lw_m1 50 rfl) rfl
theorem q153 : (Jvm.Cond.code ({ cls := "GleanersForGaps$Gleaner", name := "<init>", desc := "(I)V" } : Jvm.MethodName) prog_4_method_1_code (2 : Nat) (Option.none : Option Jvm.ClassFile.FieldType)) ∈ lw_all := lw_g (lw_at lw_m1 51 rfl) rfl
theorem q154 : (Jvm.Cond.methodLink "GleanersForGaps$Gleaner" (1 : Nat) ({ cls := "java/lang/Object", name := "<init>", desc := "()V" } : Jvm.MethodName)) ∈ lw_all := lw_g (lw_at lw_m1 52 rfl) rfl
theorem q157 : (Jvm.Cond.fieldLink "GleanersForGaps$Gleaner" (7 : Nat) "GleanersForGaps$Gleaner" "number" "I") ∈ lw_all := lw_g (lw_at lw_m1 55 rfl) rfl
theorem q165 : (Jvm.Cond.fieldLink "GleanersForGaps$Gleaner" (13 : Nat) "GleanersForGaps$Gleaner" "apron" "I") ∈ lw_all := lw_g (lw_at lw_m1 63 rfl) rfl
theorem q170 : (Jvm.Cond.soleField "GleanersForGaps$Gleaner" "number") ∈ lw_all := lw_g (lw_at lw_m1 68 rfl) rfl
theorem q172 : (Jvm.Cond.soleField "GleanersForGaps$Gleaner" "apron") ∈ lw_all := lw_g (lw_at lw_m1 70 rfl) rfl
theorem q211 : (Jvm.Cond.instantiable "GleanersForGaps$Gleaner" (2 : Nat)) ∈ lw_all := lw_g (lw_at lw_m1 109 rfl) rfl
theorem q213 : (Jvm.Cond.lays "GleanersForGaps$Gleaner" "GleanersForGaps$Gleaner" "number" "I") ∈ lw_all := lw_g (lw_at lw_m1 111 rfl) rfl
theorem q214 : (Jvm.Cond.lays "GleanersForGaps$Gleaner" "GleanersForGaps$Gleaner" "apron" "I") ∈ lw_all := lw_g (lw_at lw_m1 112 rfl) rfl
theorem q215 : (Jvm.Cond.superclass "GleanersForGaps$Gleaner" "java/lang/Object") ∈ lw_all := lw_g (lw_at lw_m1 113 rfl) rfl
theorem q317 : (Jvm.Cond.instanceMethod ({ cls := "GleanersForGaps$Gleaner", name := "kind", desc := "()I" } : Jvm.MethodName)) ∈ lw_all := lw_g (lw_at lw_m1 215 rfl) rfl
theorem q318 : (Jvm.Cond.selects "GleanersForGaps$Gleaner" ({ cls := "GleanersForGaps$Gleaner", name := "kind", desc := "()I" } : Jvm.MethodName) ({ cls := "GleanersForGaps$Gleaner", name := "kind", desc := "()I" } : Jvm.MethodName)) ∈ lw_all := lw_g (lw_at lw_m1 216 rfl) rfl
theorem q319 : (Jvm.Cond.sameMethod "GleanersForGaps$Gleaner" "GleanersForGaps$Gleaner" "kind" "()I") ∈ lw_all := lw_g (lw_at lw_m1 217 rfl) rfl
theorem q324 : (Jvm.Cond.code ({ cls := "GleanersForGaps$Gleaner", name := "kind", desc := "()I" } : Jvm.MethodName) prog_4_method_2_code (1 : Nat) (Option.some Jvm.ClassFile.FieldType.int)) ∈ lw_all := lw_g (lw_at lw_m1 222 rfl) rfl
theorem q346 : (Jvm.Cond.instanceMethod ({ cls := "GleanersForGaps$Gleaner", name := "keeps", desc := "(I)I" } : Jvm.MethodName)) ∈ lw_all := lw_g (lw_at lw_m2 4 rfl) rfl
theorem q347 : (Jvm.Cond.selects "GleanersForGaps$Gleaner" ({ cls := "GleanersForGaps$Gleaner", name := "keeps", desc := "(I)I" } : Jvm.MethodName) ({ cls := "GleanersForGaps$Gleaner", name := "keeps", desc := "(I)I" } : Jvm.MethodName)) ∈ lw_all := lw_g (lw_at lw_m2 5 rfl) rfl
theorem q348 : (Jvm.Cond.sameMethod "GleanersForGaps$Gleaner" "GleanersForGaps$Gleaner" "keeps" "(I)I") ∈ lw_all := lw_g (lw_at lw_m2 6 rfl) rfl
theorem q357 : (Jvm.Cond.declares ({ cls := "GleanersForGaps$Gleaner", name := "keeps", desc := "(I)I" } : Jvm.MethodName)) ∈ lw_tbl := lw_at lw_m2 15 rfl
theorem q358 : (Jvm.Cond.code ({ cls := "GleanersForGaps$Gleaner", name := "keeps", desc := "(I)I" } : Jvm.MethodName) prog_4_method_4_code (2 : Nat) (Option.some Jvm.ClassFile.FieldType.int)) ∈ lw_all := lw_g (lw_at lw_m2 16 rfl) rfl
theorem q888 : (Jvm.Cond.instanceMethod ({ cls := "GleanersForGaps$Gleaner", name := "taking", desc := "(II)I" } : Jvm.MethodName)) ∈ lw_all := lw_g (lw_at lw_m4 66 rfl) rfl
theorem q889 : (Jvm.Cond.selects "GleanersForGaps$Gleaner" ({ cls := "GleanersForGaps$Gleaner", name := "taking", desc := "(II)I" } : Jvm.MethodName) ({ cls := "GleanersForGaps$Gleaner", name := "taking", desc := "(II)I" } : Jvm.MethodName)) ∈ lw_all := lw_g (lw_at lw_m4 67 rfl) rfl
theorem q890 : (Jvm.Cond.sameMethod "GleanersForGaps$Gleaner" "GleanersForGaps$Gleaner" "taking" "(II)I") ∈ lw_all := lw_g (lw_at lw_m4 68 rfl) rfl
theorem q896 : (Jvm.Cond.code ({ cls := "GleanersForGaps$Gleaner", name := "taking", desc := "(II)I" } : Jvm.MethodName) prog_4_method_5_code (4 : Nat) (Option.some Jvm.ClassFile.FieldType.int)) ∈ lw_all := lw_g (lw_at lw_m4 74 rfl) rfl
theorem q897 : (Jvm.Cond.methodLink "GleanersForGaps$Gleaner" (16 : Nat) ({ cls := "GleanersForGaps$Gleaner", name := "takes", desc := "(II)I" } : Jvm.MethodName)) ∈ lw_all := lw_g (lw_at lw_m4 75 rfl) rfl
theorem q898 : (Jvm.Cond.instanceMethod ({ cls := "GleanersForGaps$Gleaner", name := "takes", desc := "(II)I" } : Jvm.MethodName)) ∈ lw_all := lw_g (lw_at lw_m4 76 rfl) rfl
theorem q899 : (Jvm.Cond.selects "GleanersForGaps$Gleaner" ({ cls := "GleanersForGaps$Gleaner", name := "takes", desc := "(II)I" } : Jvm.MethodName) ({ cls := "GleanersForGaps$Gleaner", name := "takes", desc := "(II)I" } : Jvm.MethodName)) ∈ lw_all := lw_g (lw_at lw_m4 77 rfl) rfl
theorem q900 : (Jvm.Cond.sameMethod "GleanersForGaps$Gleaner" "GleanersForGaps$Gleaner" "takes" "(II)I") ∈ lw_all := lw_g (lw_at lw_m4 78 rfl) rfl
theorem q905 : (Jvm.Cond.code ({ cls := "GleanersForGaps$Gleaner", name := "takes", desc := "(II)I" } : Jvm.MethodName) prog_4_method_3_code (3 : Nat) (Option.some Jvm.ClassFile.FieldType.int)) ∈ lw_all := lw_g (lw_at lw_m4 83 rfl) rfl
theorem q921 : (Jvm.Cond.methodLink "GleanersForGaps$Gleaner" (20 : Nat) ({ cls := "java/lang/Math", name := "min", desc := "(II)I" } : Jvm.MethodName)) ∈ lw_all := lw_g (lw_at lw_m4 99 rfl) rfl
theorem q1083 : (Jvm.Cond.instanceMethod ({ cls := "GleanersForGaps$Gleaner", name := "like", desc := "(LGleanersForGaps$Gleaner;)LGleanersForGaps$Gleaner;" } : Jvm.MethodName)) ∈ lw_all := lw_g (lw_at lw_m5 21 rfl) rfl
theorem q1084 : (Jvm.Cond.selects "GleanersForGaps$Gleaner" ({ cls := "GleanersForGaps$Gleaner", name := "like", desc := "(LGleanersForGaps$Gleaner;)LGleanersForGaps$Gleaner;" } : Jvm.MethodName) ({ cls := "GleanersForGaps$Gleaner", name := "like", desc := "(LGleanersForGaps$Gleaner;)LGleanersForGaps$Gleaner;" } : Jvm.MethodName)) ∈ lw_all := lw_g (lw_at lw_m5 22 rfl) rfl
theorem q1085 : (Jvm.Cond.sameMethod "GleanersForGaps$Gleaner" "GleanersForGaps$Gleaner" "like" "(LGleanersForGaps$Gleaner;)LGleanersForGaps$Gleaner;") ∈ lw_all := lw_g (lw_at lw_m5 23 rfl) rfl
theorem q1091 : (Jvm.Cond.code ({ cls := "GleanersForGaps$Gleaner", name := "like", desc := "(LGleanersForGaps$Gleaner;)LGleanersForGaps$Gleaner;" } : Jvm.MethodName) prog_4_method_6_code (2 : Nat) (Option.some (Jvm.ClassFile.FieldType.object "GleanersForGaps$Gleaner"))) ∈ lw_all := lw_g (lw_at lw_m5 29 rfl) rfl
theorem in_X9 : ∀ w ∈ wsX90, w ∈ lw_all := lw_in wsX90 [213, 214] (by decide +kernel) (by decide +kernel)
/-! GleanersForGaps$Widow -/
set_option maxRecDepth 100000
def RX10 : String := "GleanersForGaps$Widow"
def TX10 : u_T := fun k => match k with
  | 0 => ("GleanersForGaps$Gleaner", "number", "I", false)
  | _ => ("GleanersForGaps$Gleaner", "apron", "I", false)
def tyX10 : Nat → FieldType := fun k => match k with
  | 0 => .int
  | _ => .int
abbrev wsX100 : List Cond := u_ws RX10 TX10 2
theorem nmX10 : ∀ a, a < 2 → ∀ b, b < 2 → a ≠ b → (TX10 a).2.1 ≠ (TX10 b).2.1 := by decide +kernel
theorem tyX10_ok : ∀ k, k < 2 → parseFieldDescriptor (TX10 k).2.2.1 = some (tyX10 k) := by decide +kernel
abbrev cX10_init : ByteArray := prog_14_method_1_code
def yX10_init : MethodName := ⟨RX10, "<init>", "(I)V"⟩
def dkwX10_init_0 : List UInt8 := [42, 27, 183, 0, 1, 177]
abbrev dktX10_init_0 : List UInt8 := dkwX10_init_0 ++ []
theorem dksX10_init_0 : cX10_init.data.toList.drop 0 = dktX10_init_0 := by decide +kernel
theorem dX10_init_0 : decode cX10_init 0 = .ok (.aload_n 0, 1) := dk_42 (dk_at dksX10_init_0 0 rfl rfl)
theorem dX10_init_1 : decode cX10_init 1 = .ok (.iload_n 1, 1) := dk_27 (dk_at dksX10_init_0 1 rfl rfl)
theorem dX10_init_2 : decode cX10_init 2 = .ok (.invokespecial 1, 3) := dk_183 0 1 (dk_at dksX10_init_0 2 rfl rfl)
theorem dX10_init_5 : decode cX10_init 5 = .ok (.return_, 1) := dk_177 (dk_at dksX10_init_0 5 rfl rfl)
abbrev cX10_kind : ByteArray := prog_14_method_2_code
def yX10_kind : MethodName := ⟨RX10, "kind", "()I"⟩
def dkwX10_kind_0 : List UInt8 := [42, 183, 0, 7, 4, 96, 172]
abbrev dktX10_kind_0 : List UInt8 := dkwX10_kind_0 ++ []
theorem dksX10_kind_0 : cX10_kind.data.toList.drop 0 = dktX10_kind_0 := by decide +kernel
theorem dX10_kind_0 : decode cX10_kind 0 = .ok (.aload_n 0, 1) := dk_42 (dk_at dksX10_kind_0 0 rfl rfl)
theorem dX10_kind_1 : decode cX10_kind 1 = .ok (.invokespecial 7, 3) := dk_183 0 7 (dk_at dksX10_kind_0 1 rfl rfl)
theorem dX10_kind_4 : decode cX10_kind 4 = .ok (.iconst 1, 1) := dk_4 (dk_at dksX10_kind_0 4 rfl rfl)
theorem dX10_kind_5 : decode cX10_kind 5 = .ok (.iadd, 1) := dk_96 (dk_at dksX10_kind_0 5 rfl rfl)
theorem dX10_kind_6 : decode cX10_kind 6 = .ok (.ireturn, 1) := dk_172 (dk_at dksX10_kind_0 6 rfl rfl)
abbrev cX10_takes : ByteArray := prog_14_method_3_code
def yX10_takes : MethodName := ⟨RX10, "takes", "(II)I"⟩
def dkwX10_takes_1 : List UInt8 := [172]
abbrev dktX10_takes_1 : List UInt8 := dkwX10_takes_1 ++ []
def dkwX10_takes_0 : List UInt8 := [28, 5, 112, 4, 160, 0, 14, 42, 27, 28, 183, 0, 11, 4, 96, 167, 0, 9, 42, 27, 28, 183, 0, 11]
abbrev dktX10_takes_0 : List UInt8 := dkwX10_takes_0 ++ dktX10_takes_1
theorem dksX10_takes_0 : cX10_takes.data.toList.drop 0 = dktX10_takes_0 := by decide +kernel
theorem dksX10_takes_1 : cX10_takes.data.toList.drop 24 = dktX10_takes_1 := dk_seg dksX10_takes_0 24 rfl rfl
theorem dX10_takes_0 : decode cX10_takes 0 = .ok (.iload_n 2, 1) := dk_28 (dk_at dksX10_takes_0 0 rfl rfl)
theorem dX10_takes_1 : decode cX10_takes 1 = .ok (.iconst 2, 1) := dk_5 (dk_at dksX10_takes_0 1 rfl rfl)
theorem dX10_takes_2 : decode cX10_takes 2 = .ok (.irem, 1) := dk_112 (dk_at dksX10_takes_0 2 rfl rfl)
theorem dX10_takes_3 : decode cX10_takes 3 = .ok (.iconst 1, 1) := dk_4 (dk_at dksX10_takes_0 3 rfl rfl)
theorem dX10_takes_4 : decode cX10_takes 4 = .ok (.if_icmp .ne 14, 3) := dk_160 0 14 (dk_at dksX10_takes_0 4 rfl rfl)
theorem dX10_takes_7 : decode cX10_takes 7 = .ok (.aload_n 0, 1) := dk_42 (dk_at dksX10_takes_0 7 rfl rfl)
theorem dX10_takes_8 : decode cX10_takes 8 = .ok (.iload_n 1, 1) := dk_27 (dk_at dksX10_takes_0 8 rfl rfl)
theorem dX10_takes_9 : decode cX10_takes 9 = .ok (.iload_n 2, 1) := dk_28 (dk_at dksX10_takes_0 9 rfl rfl)
theorem dX10_takes_10 : decode cX10_takes 10 = .ok (.invokespecial 11, 3) := dk_183 0 11 (dk_at dksX10_takes_0 10 rfl rfl)
theorem dX10_takes_13 : decode cX10_takes 13 = .ok (.iconst 1, 1) := dk_4 (dk_at dksX10_takes_0 13 rfl rfl)
theorem dX10_takes_14 : decode cX10_takes 14 = .ok (.iadd, 1) := dk_96 (dk_at dksX10_takes_0 14 rfl rfl)
theorem dX10_takes_15 : decode cX10_takes 15 = .ok (.goto 9, 3) := dk_167 0 9 (dk_at dksX10_takes_0 15 rfl rfl)
theorem dX10_takes_18 : decode cX10_takes 18 = .ok (.aload_n 0, 1) := dk_42 (dk_at dksX10_takes_0 18 rfl rfl)
theorem dX10_takes_19 : decode cX10_takes 19 = .ok (.iload_n 1, 1) := dk_27 (dk_at dksX10_takes_0 19 rfl rfl)
theorem dX10_takes_20 : decode cX10_takes 20 = .ok (.iload_n 2, 1) := dk_28 (dk_at dksX10_takes_0 20 rfl rfl)
theorem dX10_takes_21 : decode cX10_takes 21 = .ok (.invokespecial 11, 3) := dk_183 0 11 (dk_at dksX10_takes_0 21 rfl rfl)
theorem dX10_takes_24 : decode cX10_takes 24 = .ok (.ireturn, 1) := dk_172 (dk_at dksX10_takes_1 0 rfl rfl)
theorem q123 : (Jvm.Cond.initialized "GleanersForGaps$Widow") ∈ lw_all := lw_g (lw_at lw_m1 21 rfl) rfl
theorem q147 : (Jvm.Cond.instantiable "GleanersForGaps$Widow" (2 : Nat)) ∈ lw_all := lw_g (lw_at lw_m1 45 rfl) rfl
theorem q149 : (Jvm.Cond.instanceMethod ({ cls := "GleanersForGaps$Widow", name := "<init>", desc := "(I)V" } : Jvm.MethodName)) ∈ lw_all := lw_g (lw_at lw_m1 47 rfl) rfl
theorem q150 : (Jvm.Cond.code ({ cls := "GleanersForGaps$Widow", name := "<init>", desc := "(I)V" } : Jvm.MethodName) prog_14_method_1_code (2 : Nat) (Option.none : Option Jvm.ClassFile.FieldType)) ∈ lw_all := lw_g (lw_at lw_m1 48 rfl) rfl
theorem q151 : (Jvm.Cond.methodLink "GleanersForGaps$Widow" (1 : Nat) ({ cls := "GleanersForGaps$Gleaner", name := "<init>", desc := "(I)V" } : Jvm.MethodName)) ∈ lw_all := lw_g (lw_at lw_m1 49 rfl) rfl
theorem q169 : (Jvm.Cond.lays "GleanersForGaps$Widow" "GleanersForGaps$Gleaner" "number" "I") ∈ lw_all := lw_g (lw_at lw_m1 67 rfl) rfl
theorem q171 : (Jvm.Cond.lays "GleanersForGaps$Widow" "GleanersForGaps$Gleaner" "apron" "I") ∈ lw_all := lw_g (lw_at lw_m1 69 rfl) rfl
theorem q173 : (Jvm.Cond.superclass "GleanersForGaps$Widow" "GleanersForGaps$Gleaner") ∈ lw_all := lw_g (lw_at lw_m1 71 rfl) rfl
theorem q329 : (Jvm.Cond.instanceMethod ({ cls := "GleanersForGaps$Widow", name := "kind", desc := "()I" } : Jvm.MethodName)) ∈ lw_all := lw_g (lw_at lw_m1 227 rfl) rfl
theorem q330 : (Jvm.Cond.code ({ cls := "GleanersForGaps$Widow", name := "kind", desc := "()I" } : Jvm.MethodName) prog_14_method_2_code (1 : Nat) (Option.some Jvm.ClassFile.FieldType.int)) ∈ lw_all := lw_g (lw_at lw_m1 228 rfl) rfl
theorem q331 : (Jvm.Cond.methodLink "GleanersForGaps$Widow" (7 : Nat) ({ cls := "GleanersForGaps$Gleaner", name := "kind", desc := "()I" } : Jvm.MethodName)) ∈ lw_all := lw_g (lw_at lw_m1 229 rfl) rfl
theorem q340 : (Jvm.Cond.selects "GleanersForGaps$Widow" ({ cls := "GleanersForGaps$Gleaner", name := "kind", desc := "()I" } : Jvm.MethodName) ({ cls := "GleanersForGaps$Widow", name := "kind", desc := "()I" } : Jvm.MethodName)) ∈ lw_all := lw_g (lw_at lw_m1 238 rfl) rfl
theorem q356 : (Jvm.Cond.sameMethod "GleanersForGaps$Widow" "GleanersForGaps$Gleaner" "keeps" "(I)I") ∈ lw_all := lw_g (lw_at lw_m2 14 rfl) rfl
theorem q366 : (Jvm.Cond.selects "GleanersForGaps$Widow" ({ cls := "GleanersForGaps$Gleaner", name := "keeps", desc := "(I)I" } : Jvm.MethodName) ({ cls := "GleanersForGaps$Gleaner", name := "keeps", desc := "(I)I" } : Jvm.MethodName)) ∈ lw_all := lw_g (lw_at lw_m2 24 rfl) rfl
theorem q895 : (Jvm.Cond.selects "GleanersForGaps$Widow" ({ cls := "GleanersForGaps$Gleaner", name := "taking", desc := "(II)I" } : Jvm.MethodName) ({ cls := "GleanersForGaps$Gleaner", name := "taking", desc := "(II)I" } : Jvm.MethodName)) ∈ lw_all := lw_g (lw_at lw_m4 73 rfl) rfl
theorem q910 : (Jvm.Cond.instanceMethod ({ cls := "GleanersForGaps$Widow", name := "takes", desc := "(II)I" } : Jvm.MethodName)) ∈ lw_all := lw_g (lw_at lw_m4 88 rfl) rfl
theorem q911 : (Jvm.Cond.code ({ cls := "GleanersForGaps$Widow", name := "takes", desc := "(II)I" } : Jvm.MethodName) prog_14_method_3_code (3 : Nat) (Option.some Jvm.ClassFile.FieldType.int)) ∈ lw_all := lw_g (lw_at lw_m4 89 rfl) rfl
theorem q912 : (Jvm.Cond.methodLink "GleanersForGaps$Widow" (11 : Nat) ({ cls := "GleanersForGaps$Gleaner", name := "takes", desc := "(II)I" } : Jvm.MethodName)) ∈ lw_all := lw_g (lw_at lw_m4 90 rfl) rfl
theorem q920 : (Jvm.Cond.selects "GleanersForGaps$Widow" ({ cls := "GleanersForGaps$Gleaner", name := "takes", desc := "(II)I" } : Jvm.MethodName) ({ cls := "GleanersForGaps$Widow", name := "takes", desc := "(II)I" } : Jvm.MethodName)) ∈ lw_all := lw_g (lw_at lw_m4 98 rfl) rfl
theorem q1090 : (Jvm.Cond.selects "GleanersForGaps$Widow" ({ cls := "GleanersForGaps$Gleaner", name := "like", desc := "(LGleanersForGaps$Gleaner;)LGleanersForGaps$Gleaner;" } : Jvm.MethodName) ({ cls := "GleanersForGaps$Gleaner", name := "like", desc := "(LGleanersForGaps$Gleaner;)LGleanersForGaps$Gleaner;" } : Jvm.MethodName)) ∈ lw_all := lw_g (lw_at lw_m5 28 rfl) rfl
theorem q1752 : (Jvm.Cond.sameMethod "GleanersForGaps$Widow" "GleanersForGaps$Widow" "kind" "()I") ∈ lw_all := lw_g (lw_at lw_m7 210 rfl) rfl
theorem q1756 : (Jvm.Cond.sameMethod "GleanersForGaps$Widow" "GleanersForGaps$Widow" "takes" "(II)I") ∈ lw_all := lw_g (lw_at lw_m7 214 rfl) rfl
theorem q1765 : (Jvm.Cond.castable "GleanersForGaps$Widow" "GleanersForGaps$Gleaner") ∈ lw_tbl := lw_at lw_m7 223 rfl
theorem in_X10 : ∀ w ∈ wsX100, w ∈ lw_all := lw_in wsX100 [169, 171] (by decide +kernel) (by decide +kernel)
/-! GleanersForGaps$Rich -/
set_option maxRecDepth 100000
def RX11 : String := "GleanersForGaps$Rich"
def TX11 : u_T := fun k => match k with
  | 0 => ("GleanersForGaps$Gleaner", "number", "I", false)
  | _ => ("GleanersForGaps$Gleaner", "apron", "I", false)
def tyX11 : Nat → FieldType := fun k => match k with
  | 0 => .int
  | _ => .int
abbrev wsX110 : List Cond := u_ws RX11 TX11 2
theorem nmX11 : ∀ a, a < 2 → ∀ b, b < 2 → a ≠ b → (TX11 a).2.1 ≠ (TX11 b).2.1 := by decide +kernel
theorem tyX11_ok : ∀ k, k < 2 → parseFieldDescriptor (TX11 k).2.2.1 = some (tyX11 k) := by decide +kernel
abbrev cX11_init : ByteArray := prog_10_method_1_code
def yX11_init : MethodName := ⟨RX11, "<init>", "(I)V"⟩
def dkwX11_init_0 : List UInt8 := [42, 27, 183, 0, 1, 177]
abbrev dktX11_init_0 : List UInt8 := dkwX11_init_0 ++ []
theorem dksX11_init_0 : cX11_init.data.toList.drop 0 = dktX11_init_0 := by decide +kernel
theorem dX11_init_0 : decode cX11_init 0 = .ok (.aload_n 0, 1) := dk_42 (dk_at dksX11_init_0 0 rfl rfl)
theorem dX11_init_1 : decode cX11_init 1 = .ok (.iload_n 1, 1) := dk_27 (dk_at dksX11_init_0 1 rfl rfl)
theorem dX11_init_2 : decode cX11_init 2 = .ok (.invokespecial 1, 3) := dk_183 0 1 (dk_at dksX11_init_0 2 rfl rfl)
theorem dX11_init_5 : decode cX11_init 5 = .ok (.return_, 1) := dk_177 (dk_at dksX11_init_0 5 rfl rfl)
abbrev cX11_kind : ByteArray := prog_10_method_2_code
def yX11_kind : MethodName := ⟨RX11, "kind", "()I"⟩
def dkwX11_kind_0 : List UInt8 := [42, 183, 0, 7, 5, 96, 172]
abbrev dktX11_kind_0 : List UInt8 := dkwX11_kind_0 ++ []
theorem dksX11_kind_0 : cX11_kind.data.toList.drop 0 = dktX11_kind_0 := by decide +kernel
theorem dX11_kind_0 : decode cX11_kind 0 = .ok (.aload_n 0, 1) := dk_42 (dk_at dksX11_kind_0 0 rfl rfl)
theorem dX11_kind_1 : decode cX11_kind 1 = .ok (.invokespecial 7, 3) := dk_183 0 7 (dk_at dksX11_kind_0 1 rfl rfl)
theorem dX11_kind_4 : decode cX11_kind 4 = .ok (.iconst 2, 1) := dk_5 (dk_at dksX11_kind_0 4 rfl rfl)
theorem dX11_kind_5 : decode cX11_kind 5 = .ok (.iadd, 1) := dk_96 (dk_at dksX11_kind_0 5 rfl rfl)
theorem dX11_kind_6 : decode cX11_kind 6 = .ok (.ireturn, 1) := dk_172 (dk_at dksX11_kind_0 6 rfl rfl)
abbrev cX11_keeps : ByteArray := prog_10_method_4_code
def yX11_keeps : MethodName := ⟨RX11, "keeps", "(I)I"⟩
theorem dX11_keeps_0 : decode cX11_keeps 0 = .ok (.aload_n 0, 1) := by decide +kernel
theorem dX11_keeps_1 : decode cX11_keeps 1 = .ok (.getfield 11, 3) := by decide +kernel
theorem dX11_keeps_4 : decode cX11_keeps 4 = .ok (.ireturn, 1) := by decide +kernel
abbrev cX11_takes : ByteArray := prog_10_method_3_code
def yX11_takes : MethodName := ⟨RX11, "takes", "(II)I"⟩
theorem dX11_takes_0 : decode cX11_takes 0 = .ok (.iload_n 2, 1) := by decide +kernel
theorem dX11_takes_1 : decode cX11_takes 1 = .ok (.ireturn, 1) := by decide +kernel
theorem q124 : (Jvm.Cond.initialized "GleanersForGaps$Rich") ∈ lw_all := lw_g (lw_at lw_m1 22 rfl) rfl
theorem q166 : (Jvm.Cond.fieldLink "GleanersForGaps$Rich" (11 : Nat) "GleanersForGaps$Rich" "apron" "I") ∈ lw_all := lw_g (lw_at lw_m1 64 rfl) rfl
theorem q167 : (Jvm.Cond.sameField "GleanersForGaps$Rich" "GleanersForGaps$Gleaner" "apron" "I") ∈ lw_all := lw_g (lw_at lw_m1 65 rfl) rfl
theorem q175 : (Jvm.Cond.instantiable "GleanersForGaps$Rich" (2 : Nat)) ∈ lw_all := lw_g (lw_at lw_m1 73 rfl) rfl
theorem q177 : (Jvm.Cond.instanceMethod ({ cls := "GleanersForGaps$Rich", name := "<init>", desc := "(I)V" } : Jvm.MethodName)) ∈ lw_all := lw_g (lw_at lw_m1 75 rfl) rfl
theorem q178 : (Jvm.Cond.code ({ cls := "GleanersForGaps$Rich", name := "<init>", desc := "(I)V" } : Jvm.MethodName) prog_10_method_1_code (2 : Nat) (Option.none : Option Jvm.ClassFile.FieldType)) ∈ lw_all := lw_g (lw_at lw_m1 76 rfl) rfl
theorem q179 : (Jvm.Cond.methodLink "GleanersForGaps$Rich" (1 : Nat) ({ cls := "GleanersForGaps$Gleaner", name := "<init>", desc := "(I)V" } : Jvm.MethodName)) ∈ lw_all := lw_g (lw_at lw_m1 77 rfl) rfl
theorem q180 : (Jvm.Cond.lays "GleanersForGaps$Rich" "GleanersForGaps$Gleaner" "number" "I") ∈ lw_all := lw_g (lw_at lw_m1 78 rfl) rfl
theorem q181 : (Jvm.Cond.lays "GleanersForGaps$Rich" "GleanersForGaps$Gleaner" "apron" "I") ∈ lw_all := lw_g (lw_at lw_m1 79 rfl) rfl
theorem q182 : (Jvm.Cond.superclass "GleanersForGaps$Rich" "GleanersForGaps$Gleaner") ∈ lw_all := lw_g (lw_at lw_m1 80 rfl) rfl
theorem q336 : (Jvm.Cond.instanceMethod ({ cls := "GleanersForGaps$Rich", name := "kind", desc := "()I" } : Jvm.MethodName)) ∈ lw_all := lw_g (lw_at lw_m1 234 rfl) rfl
theorem q337 : (Jvm.Cond.code ({ cls := "GleanersForGaps$Rich", name := "kind", desc := "()I" } : Jvm.MethodName) prog_10_method_2_code (1 : Nat) (Option.some Jvm.ClassFile.FieldType.int)) ∈ lw_all := lw_g (lw_at lw_m1 235 rfl) rfl
theorem q338 : (Jvm.Cond.methodLink "GleanersForGaps$Rich" (7 : Nat) ({ cls := "GleanersForGaps$Gleaner", name := "kind", desc := "()I" } : Jvm.MethodName)) ∈ lw_all := lw_g (lw_at lw_m1 236 rfl) rfl
theorem q339 : (Jvm.Cond.selects "GleanersForGaps$Rich" ({ cls := "GleanersForGaps$Gleaner", name := "kind", desc := "()I" } : Jvm.MethodName) ({ cls := "GleanersForGaps$Rich", name := "kind", desc := "()I" } : Jvm.MethodName)) ∈ lw_all := lw_g (lw_at lw_m1 237 rfl) rfl
theorem q363 : (Jvm.Cond.instanceMethod ({ cls := "GleanersForGaps$Rich", name := "keeps", desc := "(I)I" } : Jvm.MethodName)) ∈ lw_all := lw_g (lw_at lw_m2 21 rfl) rfl
theorem q364 : (Jvm.Cond.code ({ cls := "GleanersForGaps$Rich", name := "keeps", desc := "(I)I" } : Jvm.MethodName) prog_10_method_4_code (2 : Nat) (Option.some Jvm.ClassFile.FieldType.int)) ∈ lw_all := lw_g (lw_at lw_m2 22 rfl) rfl
theorem q365 : (Jvm.Cond.selects "GleanersForGaps$Rich" ({ cls := "GleanersForGaps$Gleaner", name := "keeps", desc := "(I)I" } : Jvm.MethodName) ({ cls := "GleanersForGaps$Rich", name := "keeps", desc := "(I)I" } : Jvm.MethodName)) ∈ lw_all := lw_g (lw_at lw_m2 23 rfl) rfl
theorem q894 : (Jvm.Cond.selects "GleanersForGaps$Rich" ({ cls := "GleanersForGaps$Gleaner", name := "taking", desc := "(II)I" } : Jvm.MethodName) ({ cls := "GleanersForGaps$Gleaner", name := "taking", desc := "(II)I" } : Jvm.MethodName)) ∈ lw_all := lw_g (lw_at lw_m4 72 rfl) rfl
theorem q917 : (Jvm.Cond.instanceMethod ({ cls := "GleanersForGaps$Rich", name := "takes", desc := "(II)I" } : Jvm.MethodName)) ∈ lw_all := lw_g (lw_at lw_m4 95 rfl) rfl
theorem q918 : (Jvm.Cond.code ({ cls := "GleanersForGaps$Rich", name := "takes", desc := "(II)I" } : Jvm.MethodName) prog_10_method_3_code (3 : Nat) (Option.some Jvm.ClassFile.FieldType.int)) ∈ lw_all := lw_g (lw_at lw_m4 96 rfl) rfl
theorem q919 : (Jvm.Cond.selects "GleanersForGaps$Rich" ({ cls := "GleanersForGaps$Gleaner", name := "takes", desc := "(II)I" } : Jvm.MethodName) ({ cls := "GleanersForGaps$Rich", name := "takes", desc := "(II)I" } : Jvm.MethodName)) ∈ lw_all := lw_g (lw_at lw_m4 97 rfl) rfl
theorem q1089 : (Jvm.Cond.selects "GleanersForGaps$Rich" ({ cls := "GleanersForGaps$Gleaner", name := "like", desc := "(LGleanersForGaps$Gleaner;)LGleanersForGaps$Gleaner;" } : Jvm.MethodName) ({ cls := "GleanersForGaps$Gleaner", name := "like", desc := "(LGleanersForGaps$Gleaner;)LGleanersForGaps$Gleaner;" } : Jvm.MethodName)) ∈ lw_all := lw_g (lw_at lw_m5 27 rfl) rfl
theorem q1753 : (Jvm.Cond.sameMethod "GleanersForGaps$Rich" "GleanersForGaps$Rich" "kind" "()I") ∈ lw_all := lw_g (lw_at lw_m7 211 rfl) rfl
theorem q1754 : (Jvm.Cond.sameMethod "GleanersForGaps$Rich" "GleanersForGaps$Rich" "keeps" "(I)I") ∈ lw_all := lw_g (lw_at lw_m7 212 rfl) rfl
theorem q1757 : (Jvm.Cond.sameMethod "GleanersForGaps$Rich" "GleanersForGaps$Rich" "takes" "(II)I") ∈ lw_all := lw_g (lw_at lw_m7 215 rfl) rfl
theorem q1766 : (Jvm.Cond.castable "GleanersForGaps$Rich" "GleanersForGaps$Gleaner") ∈ lw_tbl := lw_at lw_m7 224 rfl
theorem in_X11 : ∀ w ∈ wsX110, w ∈ lw_all := lw_in wsX110 [180, 181] (by decide +kernel) (by decide +kernel)
/-! GleanersForGaps$Lark -/
set_option maxRecDepth 100000
def RX12 : String := "GleanersForGaps$Lark"
def TX12 : u_T := fun k => match k with
  | 0 => ("GleanersForGaps$Gleaner", "number", "I", false)
  | _ => ("GleanersForGaps$Gleaner", "apron", "I", false)
def tyX12 : Nat → FieldType := fun k => match k with
  | 0 => .int
  | _ => .int
abbrev wsX120 : List Cond := u_ws RX12 TX12 2
theorem nmX12 : ∀ a, a < 2 → ∀ b, b < 2 → a ≠ b → (TX12 a).2.1 ≠ (TX12 b).2.1 := by decide +kernel
theorem tyX12_ok : ∀ k, k < 2 → parseFieldDescriptor (TX12 k).2.2.1 = some (tyX12 k) := by decide +kernel
abbrev cX12_init : ByteArray := prog_5_method_1_code
def yX12_init : MethodName := ⟨RX12, "<init>", "(I)V"⟩
def dkwX12_init_0 : List UInt8 := [42, 27, 183, 0, 1, 177]
abbrev dktX12_init_0 : List UInt8 := dkwX12_init_0 ++ []
theorem dksX12_init_0 : cX12_init.data.toList.drop 0 = dktX12_init_0 := by decide +kernel
theorem dX12_init_0 : decode cX12_init 0 = .ok (.aload_n 0, 1) := dk_42 (dk_at dksX12_init_0 0 rfl rfl)
theorem dX12_init_1 : decode cX12_init 1 = .ok (.iload_n 1, 1) := dk_27 (dk_at dksX12_init_0 1 rfl rfl)
theorem dX12_init_2 : decode cX12_init 2 = .ok (.invokespecial 1, 3) := dk_183 0 1 (dk_at dksX12_init_0 2 rfl rfl)
theorem dX12_init_5 : decode cX12_init 5 = .ok (.return_, 1) := dk_177 (dk_at dksX12_init_0 5 rfl rfl)
abbrev cX12_kind : ByteArray := prog_5_method_2_code
def yX12_kind : MethodName := ⟨RX12, "kind", "()I"⟩
def dkwX12_kind_0 : List UInt8 := [42, 183, 0, 7, 5, 96, 172]
abbrev dktX12_kind_0 : List UInt8 := dkwX12_kind_0 ++ []
theorem dksX12_kind_0 : cX12_kind.data.toList.drop 0 = dktX12_kind_0 := by decide +kernel
theorem dX12_kind_0 : decode cX12_kind 0 = .ok (.aload_n 0, 1) := dk_42 (dk_at dksX12_kind_0 0 rfl rfl)
theorem dX12_kind_1 : decode cX12_kind 1 = .ok (.invokespecial 7, 3) := dk_183 0 7 (dk_at dksX12_kind_0 1 rfl rfl)
theorem dX12_kind_4 : decode cX12_kind 4 = .ok (.iconst 2, 1) := dk_5 (dk_at dksX12_kind_0 4 rfl rfl)
theorem dX12_kind_5 : decode cX12_kind 5 = .ok (.iadd, 1) := dk_96 (dk_at dksX12_kind_0 5 rfl rfl)
theorem dX12_kind_6 : decode cX12_kind 6 = .ok (.ireturn, 1) := dk_172 (dk_at dksX12_kind_0 6 rfl rfl)
abbrev cX12_keeps : ByteArray := prog_5_method_4_code
def yX12_keeps : MethodName := ⟨RX12, "keeps", "(I)I"⟩
def dkwX12_keeps_0 : List UInt8 := [42, 27, 183, 0, 15, 42, 180, 0, 19, 100, 172]
abbrev dktX12_keeps_0 : List UInt8 := dkwX12_keeps_0 ++ []
theorem dksX12_keeps_0 : cX12_keeps.data.toList.drop 0 = dktX12_keeps_0 := by decide +kernel
theorem dX12_keeps_0 : decode cX12_keeps 0 = .ok (.aload_n 0, 1) := dk_42 (dk_at dksX12_keeps_0 0 rfl rfl)
theorem dX12_keeps_1 : decode cX12_keeps 1 = .ok (.iload_n 1, 1) := dk_27 (dk_at dksX12_keeps_0 1 rfl rfl)
theorem dX12_keeps_2 : decode cX12_keeps 2 = .ok (.invokespecial 15, 3) := dk_183 0 15 (dk_at dksX12_keeps_0 2 rfl rfl)
theorem dX12_keeps_5 : decode cX12_keeps 5 = .ok (.aload_n 0, 1) := dk_42 (dk_at dksX12_keeps_0 5 rfl rfl)
theorem dX12_keeps_6 : decode cX12_keeps 6 = .ok (.getfield 19, 3) := dk_180 0 19 (dk_at dksX12_keeps_0 6 rfl rfl)
theorem dX12_keeps_9 : decode cX12_keeps 9 = .ok (.isub, 1) := dk_100 (dk_at dksX12_keeps_0 9 rfl rfl)
theorem dX12_keeps_10 : decode cX12_keeps 10 = .ok (.ireturn, 1) := dk_172 (dk_at dksX12_keeps_0 10 rfl rfl)
abbrev cX12_takes : ByteArray := prog_5_method_3_code
def yX12_takes : MethodName := ⟨RX12, "takes", "(II)I"⟩
def dkwX12_takes_0 : List UInt8 := [28, 4, 160, 0, 7, 3, 167, 0, 9, 42, 27, 28, 183, 0, 11, 172]
abbrev dktX12_takes_0 : List UInt8 := dkwX12_takes_0 ++ []
theorem dksX12_takes_0 : cX12_takes.data.toList.drop 0 = dktX12_takes_0 := by decide +kernel
theorem dX12_takes_0 : decode cX12_takes 0 = .ok (.iload_n 2, 1) := dk_28 (dk_at dksX12_takes_0 0 rfl rfl)
theorem dX12_takes_1 : decode cX12_takes 1 = .ok (.iconst 1, 1) := dk_4 (dk_at dksX12_takes_0 1 rfl rfl)
theorem dX12_takes_2 : decode cX12_takes 2 = .ok (.if_icmp .ne 7, 3) := dk_160 0 7 (dk_at dksX12_takes_0 2 rfl rfl)
theorem dX12_takes_5 : decode cX12_takes 5 = .ok (.iconst 0, 1) := dk_3 (dk_at dksX12_takes_0 5 rfl rfl)
theorem dX12_takes_6 : decode cX12_takes 6 = .ok (.goto 9, 3) := dk_167 0 9 (dk_at dksX12_takes_0 6 rfl rfl)
theorem dX12_takes_9 : decode cX12_takes 9 = .ok (.aload_n 0, 1) := dk_42 (dk_at dksX12_takes_0 9 rfl rfl)
theorem dX12_takes_10 : decode cX12_takes 10 = .ok (.iload_n 1, 1) := dk_27 (dk_at dksX12_takes_0 10 rfl rfl)
theorem dX12_takes_11 : decode cX12_takes 11 = .ok (.iload_n 2, 1) := dk_28 (dk_at dksX12_takes_0 11 rfl rfl)
theorem dX12_takes_12 : decode cX12_takes 12 = .ok (.invokespecial 11, 3) := dk_183 0 11 (dk_at dksX12_takes_0 12 rfl rfl)
theorem dX12_takes_15 : decode cX12_takes 15 = .ok (.ireturn, 1) := dk_172 (dk_at dksX12_takes_0 15 rfl rfl)
theorem q125 : (Jvm.Cond.initialized "GleanersForGaps$Lark") ∈ lw_all := lw_g (lw_at lw_m1 23 rfl) rfl
theorem q160 : (Jvm.Cond.fieldLink "GleanersForGaps$Lark" (19 : Nat) "GleanersForGaps$Lark" "number" "I") ∈ lw_all := lw_g (lw_at lw_m1 58 rfl) rfl
theorem q161 : (Jvm.Cond.sameField "GleanersForGaps$Lark" "GleanersForGaps$Gleaner" "number" "I") ∈ lw_all := lw_g (lw_at lw_m1 59 rfl) rfl
theorem q184 : (Jvm.Cond.instantiable "GleanersForGaps$Lark" (2 : Nat)) ∈ lw_all := lw_g (lw_at lw_m1 82 rfl) rfl
theorem q186 : (Jvm.Cond.instanceMethod ({ cls := "GleanersForGaps$Lark", name := "<init>", desc := "(I)V" } : Jvm.MethodName)) ∈ lw_all := lw_g (lw_at lw_m1 84 rfl) rfl
theorem q187 : (Jvm.Cond.code ({ cls := "GleanersForGaps$Lark", name := "<init>", desc := "(I)V" } : Jvm.MethodName) prog_5_method_1_code (2 : Nat) (Option.none : Option Jvm.ClassFile.FieldType)) ∈ lw_all := lw_g (lw_at lw_m1 85 rfl) rfl
theorem q188 : (Jvm.Cond.methodLink "GleanersForGaps$Lark" (1 : Nat) ({ cls := "GleanersForGaps$Widow", name := "<init>", desc := "(I)V" } : Jvm.MethodName)) ∈ lw_all := lw_g (lw_at lw_m1 86 rfl) rfl
theorem q189 : (Jvm.Cond.lays "GleanersForGaps$Lark" "GleanersForGaps$Gleaner" "number" "I") ∈ lw_all := lw_g (lw_at lw_m1 87 rfl) rfl
theorem q190 : (Jvm.Cond.lays "GleanersForGaps$Lark" "GleanersForGaps$Gleaner" "apron" "I") ∈ lw_all := lw_g (lw_at lw_m1 88 rfl) rfl
theorem q191 : (Jvm.Cond.superclass "GleanersForGaps$Lark" "GleanersForGaps$Widow") ∈ lw_all := lw_g (lw_at lw_m1 89 rfl) rfl
theorem q325 : (Jvm.Cond.selects "GleanersForGaps$Lark" ({ cls := "GleanersForGaps$Gleaner", name := "kind", desc := "()I" } : Jvm.MethodName) ({ cls := "GleanersForGaps$Lark", name := "kind", desc := "()I" } : Jvm.MethodName)) ∈ lw_all := lw_g (lw_at lw_m1 223 rfl) rfl
theorem q326 : (Jvm.Cond.instanceMethod ({ cls := "GleanersForGaps$Lark", name := "kind", desc := "()I" } : Jvm.MethodName)) ∈ lw_all := lw_g (lw_at lw_m1 224 rfl) rfl
theorem q327 : (Jvm.Cond.code ({ cls := "GleanersForGaps$Lark", name := "kind", desc := "()I" } : Jvm.MethodName) prog_5_method_2_code (1 : Nat) (Option.some Jvm.ClassFile.FieldType.int)) ∈ lw_all := lw_g (lw_at lw_m1 225 rfl) rfl
theorem q328 : (Jvm.Cond.methodLink "GleanersForGaps$Lark" (7 : Nat) ({ cls := "GleanersForGaps$Widow", name := "kind", desc := "()I" } : Jvm.MethodName)) ∈ lw_all := lw_g (lw_at lw_m1 226 rfl) rfl
theorem q352 : (Jvm.Cond.selects "GleanersForGaps$Lark" ({ cls := "GleanersForGaps$Gleaner", name := "keeps", desc := "(I)I" } : Jvm.MethodName) ({ cls := "GleanersForGaps$Lark", name := "keeps", desc := "(I)I" } : Jvm.MethodName)) ∈ lw_all := lw_g (lw_at lw_m2 10 rfl) rfl
theorem q353 : (Jvm.Cond.instanceMethod ({ cls := "GleanersForGaps$Lark", name := "keeps", desc := "(I)I" } : Jvm.MethodName)) ∈ lw_all := lw_g (lw_at lw_m2 11 rfl) rfl
theorem q354 : (Jvm.Cond.code ({ cls := "GleanersForGaps$Lark", name := "keeps", desc := "(I)I" } : Jvm.MethodName) prog_5_method_4_code (2 : Nat) (Option.some Jvm.ClassFile.FieldType.int)) ∈ lw_all := lw_g (lw_at lw_m2 12 rfl) rfl
theorem q355 : (Jvm.Cond.methodLink "GleanersForGaps$Lark" (15 : Nat) ({ cls := "GleanersForGaps$Widow", name := "keeps", desc := "(I)I" } : Jvm.MethodName)) ∈ lw_all := lw_g (lw_at lw_m2 13 rfl) rfl
theorem q892 : (Jvm.Cond.selects "GleanersForGaps$Lark" ({ cls := "GleanersForGaps$Gleaner", name := "taking", desc := "(II)I" } : Jvm.MethodName) ({ cls := "GleanersForGaps$Gleaner", name := "taking", desc := "(II)I" } : Jvm.MethodName)) ∈ lw_all := lw_g (lw_at lw_m4 70 rfl) rfl
theorem q906 : (Jvm.Cond.selects "GleanersForGaps$Lark" ({ cls := "GleanersForGaps$Gleaner", name := "takes", desc := "(II)I" } : Jvm.MethodName) ({ cls := "GleanersForGaps$Lark", name := "takes", desc := "(II)I" } : Jvm.MethodName)) ∈ lw_all := lw_g (lw_at lw_m4 84 rfl) rfl
theorem q907 : (Jvm.Cond.instanceMethod ({ cls := "GleanersForGaps$Lark", name := "takes", desc := "(II)I" } : Jvm.MethodName)) ∈ lw_all := lw_g (lw_at lw_m4 85 rfl) rfl
theorem q908 : (Jvm.Cond.code ({ cls := "GleanersForGaps$Lark", name := "takes", desc := "(II)I" } : Jvm.MethodName) prog_5_method_3_code (3 : Nat) (Option.some Jvm.ClassFile.FieldType.int)) ∈ lw_all := lw_g (lw_at lw_m4 86 rfl) rfl
theorem q909 : (Jvm.Cond.methodLink "GleanersForGaps$Lark" (11 : Nat) ({ cls := "GleanersForGaps$Widow", name := "takes", desc := "(II)I" } : Jvm.MethodName)) ∈ lw_all := lw_g (lw_at lw_m4 87 rfl) rfl
theorem q1087 : (Jvm.Cond.selects "GleanersForGaps$Lark" ({ cls := "GleanersForGaps$Gleaner", name := "like", desc := "(LGleanersForGaps$Gleaner;)LGleanersForGaps$Gleaner;" } : Jvm.MethodName) ({ cls := "GleanersForGaps$Gleaner", name := "like", desc := "(LGleanersForGaps$Gleaner;)LGleanersForGaps$Gleaner;" } : Jvm.MethodName)) ∈ lw_all := lw_g (lw_at lw_m5 25 rfl) rfl
theorem q1759 : (Jvm.Cond.castable "GleanersForGaps$Lark" "GleanersForGaps$Widow") ∈ lw_tbl := lw_at lw_m7 217 rfl
theorem q1767 : (Jvm.Cond.castable "GleanersForGaps$Lark" "GleanersForGaps$Gleaner") ∈ lw_tbl := lw_at lw_m7 225 rfl
theorem in_X12 : ∀ w ∈ wsX120, w ∈ lw_all := lw_in wsX120 [189, 190] (by decide +kernel) (by decide +kernel)
/-! GleanersForGaps$Old -/
set_option maxRecDepth 100000
def RX13 : String := "GleanersForGaps$Old"
def TX13 : u_T := fun k => match k with
  | 0 => ("GleanersForGaps$Gleaner", "number", "I", false)
  | _ => ("GleanersForGaps$Gleaner", "apron", "I", false)
def tyX13 : Nat → FieldType := fun k => match k with
  | 0 => .int
  | _ => .int
abbrev wsX130 : List Cond := u_ws RX13 TX13 2
theorem nmX13 : ∀ a, a < 2 → ∀ b, b < 2 → a ≠ b → (TX13 a).2.1 ≠ (TX13 b).2.1 := by decide +kernel
theorem tyX13_ok : ∀ k, k < 2 → parseFieldDescriptor (TX13 k).2.2.1 = some (tyX13 k) := by decide +kernel
abbrev cX13_init : ByteArray := prog_9_method_1_code
def yX13_init : MethodName := ⟨RX13, "<init>", "(I)V"⟩
def dkwX13_init_0 : List UInt8 := [42, 27, 183, 0, 1, 177]
abbrev dktX13_init_0 : List UInt8 := dkwX13_init_0 ++ []
theorem dksX13_init_0 : cX13_init.data.toList.drop 0 = dktX13_init_0 := by decide +kernel
theorem dX13_init_0 : decode cX13_init 0 = .ok (.aload_n 0, 1) := dk_42 (dk_at dksX13_init_0 0 rfl rfl)
theorem dX13_init_1 : decode cX13_init 1 = .ok (.iload_n 1, 1) := dk_27 (dk_at dksX13_init_0 1 rfl rfl)
theorem dX13_init_2 : decode cX13_init 2 = .ok (.invokespecial 1, 3) := dk_183 0 1 (dk_at dksX13_init_0 2 rfl rfl)
theorem dX13_init_5 : decode cX13_init 5 = .ok (.return_, 1) := dk_177 (dk_at dksX13_init_0 5 rfl rfl)
abbrev cX13_kind : ByteArray := prog_9_method_2_code
def yX13_kind : MethodName := ⟨RX13, "kind", "()I"⟩
def dkwX13_kind_0 : List UInt8 := [42, 183, 0, 7, 5, 96, 172]
abbrev dktX13_kind_0 : List UInt8 := dkwX13_kind_0 ++ []
theorem dksX13_kind_0 : cX13_kind.data.toList.drop 0 = dktX13_kind_0 := by decide +kernel
theorem dX13_kind_0 : decode cX13_kind 0 = .ok (.aload_n 0, 1) := dk_42 (dk_at dksX13_kind_0 0 rfl rfl)
theorem dX13_kind_1 : decode cX13_kind 1 = .ok (.invokespecial 7, 3) := dk_183 0 7 (dk_at dksX13_kind_0 1 rfl rfl)
theorem dX13_kind_4 : decode cX13_kind 4 = .ok (.iconst 2, 1) := dk_5 (dk_at dksX13_kind_0 4 rfl rfl)
theorem dX13_kind_5 : decode cX13_kind 5 = .ok (.iadd, 1) := dk_96 (dk_at dksX13_kind_0 5 rfl rfl)
theorem dX13_kind_6 : decode cX13_kind 6 = .ok (.ireturn, 1) := dk_172 (dk_at dksX13_kind_0 6 rfl rfl)
abbrev cX13_keeps : ByteArray := prog_9_method_4_code
def yX13_keeps : MethodName := ⟨RX13, "keeps", "(I)I"⟩
def dkwX13_keeps_0 : List UInt8 := [42, 27, 183, 0, 24, 5, 108, 172]
abbrev dktX13_keeps_0 : List UInt8 := dkwX13_keeps_0 ++ []
theorem dksX13_keeps_0 : cX13_keeps.data.toList.drop 0 = dktX13_keeps_0 := by decide +kernel
theorem dX13_keeps_0 : decode cX13_keeps 0 = .ok (.aload_n 0, 1) := dk_42 (dk_at dksX13_keeps_0 0 rfl rfl)
theorem dX13_keeps_1 : decode cX13_keeps 1 = .ok (.iload_n 1, 1) := dk_27 (dk_at dksX13_keeps_0 1 rfl rfl)
theorem dX13_keeps_2 : decode cX13_keeps 2 = .ok (.invokespecial 24, 3) := dk_183 0 24 (dk_at dksX13_keeps_0 2 rfl rfl)
theorem dX13_keeps_5 : decode cX13_keeps 5 = .ok (.iconst 2, 1) := dk_5 (dk_at dksX13_keeps_0 5 rfl rfl)
theorem dX13_keeps_6 : decode cX13_keeps 6 = .ok (.idiv, 1) := dk_108 (dk_at dksX13_keeps_0 6 rfl rfl)
theorem dX13_keeps_7 : decode cX13_keeps 7 = .ok (.ireturn, 1) := dk_172 (dk_at dksX13_keeps_0 7 rfl rfl)
abbrev cX13_takes : ByteArray := prog_9_method_3_code
def yX13_takes : MethodName := ⟨RX13, "takes", "(II)I"⟩
def dkwX13_takes_1 : List UInt8 := [183, 0, 20, 172]
abbrev dktX13_takes_1 : List UInt8 := dkwX13_takes_1 ++ []
def dkwX13_takes_0 : List UInt8 := [42, 180, 0, 11, 42, 180, 0, 17, 161, 0, 11, 42, 180, 0, 17, 116, 167, 0, 9, 42, 27, 28]
abbrev dktX13_takes_0 : List UInt8 := dkwX13_takes_0 ++ dktX13_takes_1
theorem dksX13_takes_0 : cX13_takes.data.toList.drop 0 = dktX13_takes_0 := by decide +kernel
theorem dksX13_takes_1 : cX13_takes.data.toList.drop 22 = dktX13_takes_1 := dk_seg dksX13_takes_0 22 rfl rfl
theorem dX13_takes_0 : decode cX13_takes 0 = .ok (.aload_n 0, 1) := dk_42 (dk_at dksX13_takes_0 0 rfl rfl)
theorem dX13_takes_1 : decode cX13_takes 1 = .ok (.getfield 11, 3) := dk_180 0 11 (dk_at dksX13_takes_0 1 rfl rfl)
theorem dX13_takes_4 : decode cX13_takes 4 = .ok (.aload_n 0, 1) := dk_42 (dk_at dksX13_takes_0 4 rfl rfl)
theorem dX13_takes_5 : decode cX13_takes 5 = .ok (.getfield 17, 3) := dk_180 0 17 (dk_at dksX13_takes_0 5 rfl rfl)
theorem dX13_takes_8 : decode cX13_takes 8 = .ok (.if_icmp .lt 11, 3) := dk_161 0 11 (dk_at dksX13_takes_0 8 rfl rfl)
theorem dX13_takes_11 : decode cX13_takes 11 = .ok (.aload_n 0, 1) := dk_42 (dk_at dksX13_takes_0 11 rfl rfl)
theorem dX13_takes_12 : decode cX13_takes 12 = .ok (.getfield 17, 3) := dk_180 0 17 (dk_at dksX13_takes_0 12 rfl rfl)
theorem dX13_takes_15 : decode cX13_takes 15 = .ok (.ineg, 1) := dk_116 (dk_at dksX13_takes_0 15 rfl rfl)
theorem dX13_takes_16 : decode cX13_takes 16 = .ok (.goto 9, 3) := dk_167 0 9 (dk_at dksX13_takes_0 16 rfl rfl)
theorem dX13_takes_19 : decode cX13_takes 19 = .ok (.aload_n 0, 1) := dk_42 (dk_at dksX13_takes_0 19 rfl rfl)
theorem dX13_takes_20 : decode cX13_takes 20 = .ok (.iload_n 1, 1) := dk_27 (dk_at dksX13_takes_0 20 rfl rfl)
theorem dX13_takes_21 : decode cX13_takes 21 = .ok (.iload_n 2, 1) := dk_28 (dk_at dksX13_takes_0 21 rfl rfl)
theorem dX13_takes_22 : decode cX13_takes 22 = .ok (.invokespecial 20, 3) := dk_183 0 20 (dk_at dksX13_takes_1 0 rfl rfl)
theorem dX13_takes_25 : decode cX13_takes 25 = .ok (.ireturn, 1) := dk_172 (dk_at dksX13_takes_1 3 rfl rfl)
theorem q126 : (Jvm.Cond.initialized "GleanersForGaps$Old") ∈ lw_all := lw_g (lw_at lw_m1 24 rfl) rfl
theorem q158 : (Jvm.Cond.fieldLink "GleanersForGaps$Old" (17 : Nat) "GleanersForGaps$Old" "number" "I") ∈ lw_all := lw_g (lw_at lw_m1 56 rfl) rfl
theorem q159 : (Jvm.Cond.sameField "GleanersForGaps$Old" "GleanersForGaps$Gleaner" "number" "I") ∈ lw_all := lw_g (lw_at lw_m1 57 rfl) rfl
theorem q163 : (Jvm.Cond.fieldLink "GleanersForGaps$Old" (11 : Nat) "GleanersForGaps$Old" "apron" "I") ∈ lw_all := lw_g (lw_at lw_m1 61 rfl) rfl
theorem q164 : (Jvm.Cond.sameField "GleanersForGaps$Old" "GleanersForGaps$Gleaner" "apron" "I") ∈ lw_all := lw_g (lw_at lw_m1 62 rfl) rfl
theorem q193 : (Jvm.Cond.instantiable "GleanersForGaps$Old" (2 : Nat)) ∈ lw_all := lw_g (lw_at lw_m1 91 rfl) rfl
theorem q195 : (Jvm.Cond.instanceMethod ({ cls := "GleanersForGaps$Old", name := "<init>", desc := "(I)V" } : Jvm.MethodName)) ∈ lw_all := lw_g (lw_at lw_m1 93 rfl) rfl
theorem q196 : (Jvm.Cond.code ({ cls := "GleanersForGaps$Old", name := "<init>", desc := "(I)V" } : Jvm.MethodName) prog_9_method_1_code (2 : Nat) (Option.none : Option Jvm.ClassFile.FieldType)) ∈ lw_all := lw_g (lw_at lw_m1 94 rfl) rfl
theorem q197 : (Jvm.Cond.methodLink "GleanersForGaps$Old" (1 : Nat) ({ cls := "GleanersForGaps$Rich", name := "<init>", desc := "(I)V" } : Jvm.MethodName)) ∈ lw_all := lw_g (lw_at lw_m1 95 rfl) rfl
theorem q198 : (Jvm.Cond.lays "GleanersForGaps$Old" "GleanersForGaps$Gleaner" "number" "I") ∈ lw_all := lw_g (lw_at lw_m1 96 rfl) rfl
theorem q199 : (Jvm.Cond.lays "GleanersForGaps$Old" "GleanersForGaps$Gleaner" "apron" "I") ∈ lw_all := lw_g (lw_at lw_m1 97 rfl) rfl
theorem q200 : (Jvm.Cond.superclass "GleanersForGaps$Old" "GleanersForGaps$Rich") ∈ lw_all := lw_g (lw_at lw_m1 98 rfl) rfl
theorem q332 : (Jvm.Cond.selects "GleanersForGaps$Old" ({ cls := "GleanersForGaps$Gleaner", name := "kind", desc := "()I" } : Jvm.MethodName) ({ cls := "GleanersForGaps$Old", name := "kind", desc := "()I" } : Jvm.MethodName)) ∈ lw_all := lw_g (lw_at lw_m1 230 rfl) rfl
theorem q333 : (Jvm.Cond.instanceMethod ({ cls := "GleanersForGaps$Old", name := "kind", desc := "()I" } : Jvm.MethodName)) ∈ lw_all := lw_g (lw_at lw_m1 231 rfl) rfl
theorem q334 : (Jvm.Cond.code ({ cls := "GleanersForGaps$Old", name := "kind", desc := "()I" } : Jvm.MethodName) prog_9_method_2_code (1 : Nat) (Option.some Jvm.ClassFile.FieldType.int)) ∈ lw_all := lw_g (lw_at lw_m1 232 rfl) rfl
theorem q335 : (Jvm.Cond.methodLink "GleanersForGaps$Old" (7 : Nat) ({ cls := "GleanersForGaps$Rich", name := "kind", desc := "()I" } : Jvm.MethodName)) ∈ lw_all := lw_g (lw_at lw_m1 233 rfl) rfl
theorem q359 : (Jvm.Cond.selects "GleanersForGaps$Old" ({ cls := "GleanersForGaps$Gleaner", name := "keeps", desc := "(I)I" } : Jvm.MethodName) ({ cls := "GleanersForGaps$Old", name := "keeps", desc := "(I)I" } : Jvm.MethodName)) ∈ lw_all := lw_g (lw_at lw_m2 17 rfl) rfl
theorem q360 : (Jvm.Cond.instanceMethod ({ cls := "GleanersForGaps$Old", name := "keeps", desc := "(I)I" } : Jvm.MethodName)) ∈ lw_all := lw_g (lw_at lw_m2 18 rfl) rfl
theorem q361 : (Jvm.Cond.code ({ cls := "GleanersForGaps$Old", name := "keeps", desc := "(I)I" } : Jvm.MethodName) prog_9_method_4_code (2 : Nat) (Option.some Jvm.ClassFile.FieldType.int)) ∈ lw_all := lw_g (lw_at lw_m2 19 rfl) rfl
theorem q362 : (Jvm.Cond.methodLink "GleanersForGaps$Old" (24 : Nat) ({ cls := "GleanersForGaps$Rich", name := "keeps", desc := "(I)I" } : Jvm.MethodName)) ∈ lw_all := lw_g (lw_at lw_m2 20 rfl) rfl
theorem q893 : (Jvm.Cond.selects "GleanersForGaps$Old" ({ cls := "GleanersForGaps$Gleaner", name := "taking", desc := "(II)I" } : Jvm.MethodName) ({ cls := "GleanersForGaps$Gleaner", name := "taking", desc := "(II)I" } : Jvm.MethodName)) ∈ lw_all := lw_g (lw_at lw_m4 71 rfl) rfl
theorem q913 : (Jvm.Cond.selects "GleanersForGaps$Old" ({ cls := "GleanersForGaps$Gleaner", name := "takes", desc := "(II)I" } : Jvm.MethodName) ({ cls := "GleanersForGaps$Old", name := "takes", desc := "(II)I" } : Jvm.MethodName)) ∈ lw_all := lw_g (lw_at lw_m4 91 rfl) rfl
theorem q914 : (Jvm.Cond.instanceMethod ({ cls := "GleanersForGaps$Old", name := "takes", desc := "(II)I" } : Jvm.MethodName)) ∈ lw_all := lw_g (lw_at lw_m4 92 rfl) rfl
theorem q915 : (Jvm.Cond.code ({ cls := "GleanersForGaps$Old", name := "takes", desc := "(II)I" } : Jvm.MethodName) prog_9_method_3_code (3 : Nat) (Option.some Jvm.ClassFile.FieldType.int)) ∈ lw_all := lw_g (lw_at lw_m4 93 rfl) rfl
theorem q916 : (Jvm.Cond.methodLink "GleanersForGaps$Old" (20 : Nat) ({ cls := "GleanersForGaps$Rich", name := "takes", desc := "(II)I" } : Jvm.MethodName)) ∈ lw_all := lw_g (lw_at lw_m4 94 rfl) rfl
theorem q1088 : (Jvm.Cond.selects "GleanersForGaps$Old" ({ cls := "GleanersForGaps$Gleaner", name := "like", desc := "(LGleanersForGaps$Gleaner;)LGleanersForGaps$Gleaner;" } : Jvm.MethodName) ({ cls := "GleanersForGaps$Gleaner", name := "like", desc := "(LGleanersForGaps$Gleaner;)LGleanersForGaps$Gleaner;" } : Jvm.MethodName)) ∈ lw_all := lw_g (lw_at lw_m5 26 rfl) rfl
theorem q1760 : (Jvm.Cond.castable "GleanersForGaps$Old" "GleanersForGaps$Rich") ∈ lw_tbl := lw_at lw_m7 218 rfl
theorem q1768 : (Jvm.Cond.castable "GleanersForGaps$Old" "GleanersForGaps$Gleaner") ∈ lw_tbl := lw_at lw_m7 226 rfl
theorem in_X13 : ∀ w ∈ wsX130, w ∈ lw_all := lw_in wsX130 [198, 199] (by decide +kernel) (by decide +kernel)
/-! GleanersForGaps$Child -/
set_option maxRecDepth 100000
def RX14 : String := "GleanersForGaps$Child"
def TX14 : u_T := fun k => match k with
  | 0 => ("GleanersForGaps$Gleaner", "number", "I", false)
  | _ => ("GleanersForGaps$Gleaner", "apron", "I", false)
def tyX14 : Nat → FieldType := fun k => match k with
  | 0 => .int
  | _ => .int
abbrev wsX140 : List Cond := u_ws RX14 TX14 2
theorem nmX14 : ∀ a, a < 2 → ∀ b, b < 2 → a ≠ b → (TX14 a).2.1 ≠ (TX14 b).2.1 := by decide +kernel
theorem tyX14_ok : ∀ k, k < 2 → parseFieldDescriptor (TX14 k).2.2.1 = some (tyX14 k) := by decide +kernel
abbrev cX14_init : ByteArray := prog_2_method_1_code
def yX14_init : MethodName := ⟨RX14, "<init>", "(I)V"⟩
def dkwX14_init_0 : List UInt8 := [42, 27, 183, 0, 1, 177]
abbrev dktX14_init_0 : List UInt8 := dkwX14_init_0 ++ []
theorem dksX14_init_0 : cX14_init.data.toList.drop 0 = dktX14_init_0 := by decide +kernel
theorem dX14_init_0 : decode cX14_init 0 = .ok (.aload_n 0, 1) := dk_42 (dk_at dksX14_init_0 0 rfl rfl)
theorem dX14_init_1 : decode cX14_init 1 = .ok (.iload_n 1, 1) := dk_27 (dk_at dksX14_init_0 1 rfl rfl)
theorem dX14_init_2 : decode cX14_init 2 = .ok (.invokespecial 1, 3) := dk_183 0 1 (dk_at dksX14_init_0 2 rfl rfl)
theorem dX14_init_5 : decode cX14_init 5 = .ok (.return_, 1) := dk_177 (dk_at dksX14_init_0 5 rfl rfl)
abbrev cX14_kind : ByteArray := prog_2_method_2_code
def yX14_kind : MethodName := ⟨RX14, "kind", "()I"⟩
def dkwX14_kind_0 : List UInt8 := [42, 183, 0, 7, 8, 96, 172]
abbrev dktX14_kind_0 : List UInt8 := dkwX14_kind_0 ++ []
theorem dksX14_kind_0 : cX14_kind.data.toList.drop 0 = dktX14_kind_0 := by decide +kernel
theorem dX14_kind_0 : decode cX14_kind 0 = .ok (.aload_n 0, 1) := dk_42 (dk_at dksX14_kind_0 0 rfl rfl)
theorem dX14_kind_1 : decode cX14_kind 1 = .ok (.invokespecial 7, 3) := dk_183 0 7 (dk_at dksX14_kind_0 1 rfl rfl)
theorem dX14_kind_4 : decode cX14_kind 4 = .ok (.iconst 5, 1) := dk_8 (dk_at dksX14_kind_0 4 rfl rfl)
theorem dX14_kind_5 : decode cX14_kind 5 = .ok (.iadd, 1) := dk_96 (dk_at dksX14_kind_0 5 rfl rfl)
theorem dX14_kind_6 : decode cX14_kind 6 = .ok (.ireturn, 1) := dk_172 (dk_at dksX14_kind_0 6 rfl rfl)
abbrev cX14_keeps : ByteArray := prog_2_method_4_code
def yX14_keeps : MethodName := ⟨RX14, "keeps", "(I)I"⟩
theorem dX14_keeps_0 : decode cX14_keeps 0 = .ok (.iconst 0, 1) := by decide +kernel
theorem dX14_keeps_1 : decode cX14_keeps 1 = .ok (.ireturn, 1) := by decide +kernel
abbrev cX14_takes : ByteArray := prog_2_method_3_code
def yX14_takes : MethodName := ⟨RX14, "takes", "(II)I"⟩
def dkwX14_takes_0 : List UInt8 := [42, 27, 28, 183, 0, 11, 5, 108, 172]
abbrev dktX14_takes_0 : List UInt8 := dkwX14_takes_0 ++ []
theorem dksX14_takes_0 : cX14_takes.data.toList.drop 0 = dktX14_takes_0 := by decide +kernel
theorem dX14_takes_0 : decode cX14_takes 0 = .ok (.aload_n 0, 1) := dk_42 (dk_at dksX14_takes_0 0 rfl rfl)
theorem dX14_takes_1 : decode cX14_takes 1 = .ok (.iload_n 1, 1) := dk_27 (dk_at dksX14_takes_0 1 rfl rfl)
theorem dX14_takes_2 : decode cX14_takes 2 = .ok (.iload_n 2, 1) := dk_28 (dk_at dksX14_takes_0 2 rfl rfl)
theorem dX14_takes_3 : decode cX14_takes 3 = .ok (.invokespecial 11, 3) := dk_183 0 11 (dk_at dksX14_takes_0 3 rfl rfl)
theorem dX14_takes_6 : decode cX14_takes 6 = .ok (.iconst 2, 1) := dk_5 (dk_at dksX14_takes_0 6 rfl rfl)
theorem dX14_takes_7 : decode cX14_takes 7 = .ok (.idiv, 1) := dk_108 (dk_at dksX14_takes_0 7 rfl rfl)
theorem dX14_takes_8 : decode cX14_takes 8 = .ok (.ireturn, 1) := dk_172 (dk_at dksX14_takes_0 8 rfl rfl)
theorem q127 : (Jvm.Cond.initialized "GleanersForGaps$Child") ∈ lw_all := lw_g (lw_at lw_m1 25 rfl) rfl
theorem q202 : (Jvm.Cond.instantiable "GleanersForGaps$Child" (2 : Nat)) ∈ lw_all := lw_g (lw_at lw_m1 100 rfl) rfl
theorem q204 : (Jvm.Cond.instanceMethod ({ cls := "GleanersForGaps$Child", name := "<init>", desc := "(I)V" } : Jvm.MethodName)) ∈ lw_all := lw_g (lw_at lw_m1 102 rfl) rfl
theorem q205 : (Jvm.Cond.code ({ cls := "GleanersForGaps$Child", name := "<init>", desc := "(I)V" } : Jvm.MethodName) prog_2_method_1_code (2 : Nat) (Option.none : Option Jvm.ClassFile.FieldType)) ∈ lw_all := lw_g (lw_at lw_m1 103 rfl) rfl
theorem q206 : (Jvm.Cond.methodLink "GleanersForGaps$Child" (1 : Nat) ({ cls := "GleanersForGaps$Gleaner", name := "<init>", desc := "(I)V" } : Jvm.MethodName)) ∈ lw_all := lw_g (lw_at lw_m1 104 rfl) rfl
theorem q207 : (Jvm.Cond.lays "GleanersForGaps$Child" "GleanersForGaps$Gleaner" "number" "I") ∈ lw_all := lw_g (lw_at lw_m1 105 rfl) rfl
theorem q208 : (Jvm.Cond.lays "GleanersForGaps$Child" "GleanersForGaps$Gleaner" "apron" "I") ∈ lw_all := lw_g (lw_at lw_m1 106 rfl) rfl
theorem q209 : (Jvm.Cond.superclass "GleanersForGaps$Child" "GleanersForGaps$Gleaner") ∈ lw_all := lw_g (lw_at lw_m1 107 rfl) rfl
theorem q320 : (Jvm.Cond.selects "GleanersForGaps$Child" ({ cls := "GleanersForGaps$Gleaner", name := "kind", desc := "()I" } : Jvm.MethodName) ({ cls := "GleanersForGaps$Child", name := "kind", desc := "()I" } : Jvm.MethodName)) ∈ lw_all := lw_g (lw_at lw_m1 218 rfl) rfl
theorem q321 : (Jvm.Cond.instanceMethod ({ cls := "GleanersForGaps$Child", name := "kind", desc := "()I" } : Jvm.MethodName)) ∈ lw_all := lw_g (lw_at lw_m1 219 rfl) rfl
theorem q322 : (Jvm.Cond.code ({ cls := "GleanersForGaps$Child", name := "kind", desc := "()I" } : Jvm.MethodName) prog_2_method_2_code (1 : Nat) (Option.some Jvm.ClassFile.FieldType.int)) ∈ lw_all := lw_g (lw_at lw_m1 220 rfl) rfl
theorem q323 : (Jvm.Cond.methodLink "GleanersForGaps$Child" (7 : Nat) ({ cls := "GleanersForGaps$Gleaner", name := "kind", desc := "()I" } : Jvm.MethodName)) ∈ lw_all := lw_g (lw_at lw_m1 221 rfl) rfl
theorem q349 : (Jvm.Cond.selects "GleanersForGaps$Child" ({ cls := "GleanersForGaps$Gleaner", name := "keeps", desc := "(I)I" } : Jvm.MethodName) ({ cls := "GleanersForGaps$Child", name := "keeps", desc := "(I)I" } : Jvm.MethodName)) ∈ lw_all := lw_g (lw_at lw_m2 7 rfl) rfl
theorem q350 : (Jvm.Cond.instanceMethod ({ cls := "GleanersForGaps$Child", name := "keeps", desc := "(I)I" } : Jvm.MethodName)) ∈ lw_all := lw_g (lw_at lw_m2 8 rfl) rfl
theorem q351 : (Jvm.Cond.code ({ cls := "GleanersForGaps$Child", name := "keeps", desc := "(I)I" } : Jvm.MethodName) prog_2_method_4_code (2 : Nat) (Option.some Jvm.ClassFile.FieldType.int)) ∈ lw_all := lw_g (lw_at lw_m2 9 rfl) rfl
theorem q891 : (Jvm.Cond.selects "GleanersForGaps$Child" ({ cls := "GleanersForGaps$Gleaner", name := "taking", desc := "(II)I" } : Jvm.MethodName) ({ cls := "GleanersForGaps$Gleaner", name := "taking", desc := "(II)I" } : Jvm.MethodName)) ∈ lw_all := lw_g (lw_at lw_m4 69 rfl) rfl
theorem q901 : (Jvm.Cond.selects "GleanersForGaps$Child" ({ cls := "GleanersForGaps$Gleaner", name := "takes", desc := "(II)I" } : Jvm.MethodName) ({ cls := "GleanersForGaps$Child", name := "takes", desc := "(II)I" } : Jvm.MethodName)) ∈ lw_all := lw_g (lw_at lw_m4 79 rfl) rfl
theorem q902 : (Jvm.Cond.instanceMethod ({ cls := "GleanersForGaps$Child", name := "takes", desc := "(II)I" } : Jvm.MethodName)) ∈ lw_all := lw_g (lw_at lw_m4 80 rfl) rfl
theorem q903 : (Jvm.Cond.code ({ cls := "GleanersForGaps$Child", name := "takes", desc := "(II)I" } : Jvm.MethodName) prog_2_method_3_code (3 : Nat) (Option.some Jvm.ClassFile.FieldType.int)) ∈ lw_all := lw_g (lw_at lw_m4 81 rfl) rfl
theorem q904 : (Jvm.Cond.methodLink "GleanersForGaps$Child" (11 : Nat) ({ cls := "GleanersForGaps$Gleaner", name := "takes", desc := "(II)I" } : Jvm.MethodName)) ∈ lw_all := lw_g (lw_at lw_m4 82 rfl) rfl
theorem q1086 : (Jvm.Cond.selects "GleanersForGaps$Child" ({ cls := "GleanersForGaps$Gleaner", name := "like", desc := "(LGleanersForGaps$Gleaner;)LGleanersForGaps$Gleaner;" } : Jvm.MethodName) ({ cls := "GleanersForGaps$Gleaner", name := "like", desc := "(LGleanersForGaps$Gleaner;)LGleanersForGaps$Gleaner;" } : Jvm.MethodName)) ∈ lw_all := lw_g (lw_at lw_m5 24 rfl) rfl
theorem q1769 : (Jvm.Cond.castable "GleanersForGaps$Child" "GleanersForGaps$Gleaner") ∈ lw_tbl := lw_at lw_m7 227 rfl
theorem in_X14 : ∀ w ∈ wsX140, w ∈ lw_all := lw_in wsX140 [207, 208] (by decide +kernel) (by decide +kernel)
