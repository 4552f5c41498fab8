/-! GleanersForGaps -/
set_option maxRecDepth 100000
def RX0 : String := "GleanersForGaps"
def TX0 : u_T := fun k => match k with
  | 0 => ("GleanersForGaps", "folk", "[LGleanersForGaps$Gleaner;", true)
  | 1 => ("GleanersForGaps", "many", "I", false)
  | 2 => ("GleanersForGaps", "night", "I", false)
  | 3 => ("GleanersForGaps", "lengths", "[I", true)
  | 4 => ("GleanersForGaps", "stalks", "[I", true)
  | 5 => ("GleanersForGaps", "sizes", "[I", true)
  | 6 => ("GleanersForGaps", "faulty", "LGleanersForGaps$Faulty;", true)
  | 7 => ("GleanersForGaps", "forGap", "I", false)
  | 8 => ("GleanersForGaps", "forNth", "I", false)
  | 9 => ("GleanersForGaps", "forNumber", "I", false)
  | 10 => ("GleanersForGaps", "forApron", "I", false)
  | 11 => ("GleanersForGaps", "forRow", "I", false)
  | 12 => ("GleanersForGaps", "texts", "[[LGleanersForGaps$Node;", true)
  | 13 => ("GleanersForGaps", "textMany", "I", false)
  | 14 => ("GleanersForGaps", "keys", "[Ljava/lang/String;", true)
  | 15 => ("GleanersForGaps", "names", "[Ljava/lang/String;", true)
  | 16 => ("GleanersForGaps", "tape", "[B", true)
  | 17 => ("GleanersForGaps", "taped", "I", false)
  | 18 => ("GleanersForGaps", "length", "I", false)
  | 19 => ("GleanersForGaps", "at", "I", false)
  | 20 => ("GleanersForGaps", "begin", "I", false)
  | 21 => ("GleanersForGaps", "token", "I", false)
  | 22 => ("GleanersForGaps", "value", "I", false)
  | 23 => ("GleanersForGaps", "opens", "I", false)
  | 24 => ("GleanersForGaps", "rule", "I", false)
  | 25 => ("GleanersForGaps", "tookOf", "[I", true)
  | 26 => ("GleanersForGaps", "runsGleaned", "I", false)
  | 27 => ("GleanersForGaps", "next", "[I", true)
  | 28 => ("GleanersForGaps", "keptApron", "[[I", true)
  | 29 => ("GleanersForGaps", "keptLength", "[[I", true)
  | 30 => ("GleanersForGaps", "keptStalks", "[[I", true)
  | 31 => ("GleanersForGaps", "keptNight", "[I", true)
  | 32 => ("GleanersForGaps", "bestDigits", "I", false)
  | 33 => ("GleanersForGaps", "bestWorth", "I", false)
  | 34 => ("GleanersForGaps", "isFound", "Z", false)
  | 35 => ("GleanersForGaps", "hasImage", "Z", false)
  | 36 => ("GleanersForGaps", "imageRows", "[[I", true)
  | 37 => ("GleanersForGaps", "imageFolk", "[[I", true)
  | 38 => ("GleanersForGaps", "imageNumbers", "[I", true)
  | _ => ("GleanersForGaps", "sheets", "[LGleanersForGaps$Sheet;", true)
def tyX0 : Nat → FieldType := fun k => match k with
  | 0 => .array (.object "GleanersForGaps$Gleaner")
  | 1 => .int
  | 2 => .int
  | 3 => .array .int
  | 4 => .array .int
  | 5 => .array .int
  | 6 => .object "GleanersForGaps$Faulty"
  | 7 => .int
  | 8 => .int
  | 9 => .int
  | 10 => .int
  | 11 => .int
  | 12 => .array (.array (.object "GleanersForGaps$Node"))
  | 13 => .int
  | 14 => .array (.object "java/lang/String")
  | 15 => .array (.object "java/lang/String")
  | 16 => .array .byte
  | 17 => .int
  | 18 => .int
  | 19 => .int
  | 20 => .int
  | 21 => .int
  | 22 => .int
  | 23 => .int
  | 24 => .int
  | 25 => .array .int
  | 26 => .int
  | 27 => .array .int
  | 28 => .array (.array .int)
  | 29 => .array (.array .int)
  | 30 => .array (.array .int)
  | 31 => .array .int
  | 32 => .int
  | 33 => .int
  | 34 => .boolean
  | 35 => .boolean
  | 36 => .array (.array .int)
  | 37 => .array (.array .int)
  | 38 => .array .int
  | _ => .array (.object "GleanersForGaps$Sheet")
abbrev wsX00 : List Cond := u_ws RX0 TX0 40
set_option maxRecDepth 100000 in
theorem nmX0 : ∀ a, a < 40 → ∀ b, b < 40 → a ≠ b → (TX0 a).2.1 ≠ (TX0 b).2.1 := by decide +kernel
set_option maxRecDepth 100000 in
theorem tyX0_ok : ∀ k, k < 40 → parseFieldDescriptor (TX0 k).2.2.1 = some (tyX0 k) := by decide +kernel
abbrev cX0_gleaner : ByteArray := prog_1_method_7_code
def yX0_gleaner : MethodName := ⟨RX0, "gleaner", "(II)I"⟩
def dkwX0_gleaner_2 : List UInt8 := [184, 0, 51, 83, 42, 89, 180, 0, 18, 4, 96, 181, 0, 18, 42, 180, 0, 18, 4, 100, 172]
abbrev dktX0_gleaner_2 : List UInt8 := dkwX0_gleaner_2 ++ []
def dkwX0_gleaner_1 : List UInt8 := [16, 254, 172, 42, 180, 0, 18, 8, 160, 0, 6, 16, 252, 172, 42, 180, 0, 47, 42, 180, 0, 18, 27, 28]
abbrev dktX0_gleaner_1 : List UInt8 := dkwX0_gleaner_1 ++ dktX0_gleaner_2
def dkwX0_gleaner_0 : List UInt8 := [27, 133, 9, 20, 0, 43, 184, 0, 14, 153, 0, 15, 28, 133, 9, 20, 0, 45, 184, 0, 14, 154, 0, 6]
abbrev dktX0_gleaner_0 : List UInt8 := dkwX0_gleaner_0 ++ dktX0_gleaner_1
theorem dksX0_gleaner_0 : cX0_gleaner.data.toList.drop 0 = dktX0_gleaner_0 := by decide +kernel
theorem dksX0_gleaner_1 : cX0_gleaner.data.toList.drop 24 = dktX0_gleaner_1 := dk_seg dksX0_gleaner_0 24 rfl rfl
theorem dksX0_gleaner_2 : cX0_gleaner.data.toList.drop 48 = dktX0_gleaner_2 := dk_seg dksX0_gleaner_1 24 rfl rfl
theorem dX0_gleaner_0 : decode cX0_gleaner 0 = .ok (.iload_n 1, 1) := dk_27 (dk_at dksX0_gleaner_0 0 rfl rfl)
theorem dX0_gleaner_1 : decode cX0_gleaner 1 = .ok (.i2l, 1) := dk_133 (dk_at dksX0_gleaner_0 1 rfl rfl)
theorem dX0_gleaner_2 : decode cX0_gleaner 2 = .ok (.lconst 0, 1) := dk_9 (dk_at dksX0_gleaner_0 2 rfl rfl)
theorem dX0_gleaner_3 : decode cX0_gleaner 3 = .ok (.ldc2_w 43, 3) := dk_20 0 43 (dk_at dksX0_gleaner_0 3 rfl rfl)
theorem dX0_gleaner_6 : decode cX0_gleaner 6 = .ok (.invokestatic 14, 3) := dk_184 0 14 (dk_at dksX0_gleaner_0 6 rfl rfl)
theorem dX0_gleaner_9 : decode cX0_gleaner 9 = .ok (.ifCond .eq 15, 3) := dk_153 0 15 (dk_at dksX0_gleaner_0 9 rfl rfl)
theorem dX0_gleaner_12 : decode cX0_gleaner 12 = .ok (.iload_n 2, 1) := dk_28 (dk_at dksX0_gleaner_0 12 rfl rfl)
theorem dX0_gleaner_13 : decode cX0_gleaner 13 = .ok (.i2l, 1) := dk_133 (dk_at dksX0_gleaner_0 13 rfl rfl)
theorem dX0_gleaner_14 : decode cX0_gleaner 14 = .ok (.lconst 0, 1) := dk_9 (dk_at dksX0_gleaner_0 14 rfl rfl)
theorem dX0_gleaner_15 : decode cX0_gleaner 15 = .ok (.ldc2_w 45, 3) := dk_20 0 45 (dk_at dksX0_gleaner_0 15 rfl rfl)
theorem dX0_gleaner_18 : decode cX0_gleaner 18 = .ok (.invokestatic 14, 3) := dk_184 0 14 (dk_at dksX0_gleaner_0 18 rfl rfl)
theorem dX0_gleaner_21 : decode cX0_gleaner 21 = .ok (.ifCond .ne 6, 3) := dk_154 0 6 (dk_at dksX0_gleaner_0 21 rfl rfl)
theorem dX0_gleaner_24 : decode cX0_gleaner 24 = .ok (.bipush (-2), 2) := dk_16 254 (dk_at dksX0_gleaner_1 0 rfl rfl)
theorem dX0_gleaner_26 : decode cX0_gleaner 26 = .ok (.ireturn, 1) := dk_172 (dk_at dksX0_gleaner_1 2 rfl rfl)
theorem dX0_gleaner_27 : decode cX0_gleaner 27 = .ok (.aload_n 0, 1) := dk_42 (dk_at dksX0_gleaner_1 3 rfl rfl)
theorem dX0_gleaner_28 : decode cX0_gleaner 28 = .ok (.getfield 18, 3) := dk_180 0 18 (dk_at dksX0_gleaner_1 4 rfl rfl)
theorem dX0_gleaner_31 : decode cX0_gleaner 31 = .ok (.iconst 5, 1) := dk_8 (dk_at dksX0_gleaner_1 7 rfl rfl)
theorem dX0_gleaner_32 : decode cX0_gleaner 32 = .ok (.if_icmp .ne 6, 3) := dk_160 0 6 (dk_at dksX0_gleaner_1 8 rfl rfl)
theorem dX0_gleaner_35 : decode cX0_gleaner 35 = .ok (.bipush (-4), 2) := dk_16 252 (dk_at dksX0_gleaner_1 11 rfl rfl)
theorem dX0_gleaner_37 : decode cX0_gleaner 37 = .ok (.ireturn, 1) := dk_172 (dk_at dksX0_gleaner_1 13 rfl rfl)
theorem dX0_gleaner_38 : decode cX0_gleaner 38 = .ok (.aload_n 0, 1) := dk_42 (dk_at dksX0_gleaner_1 14 rfl rfl)
theorem dX0_gleaner_39 : decode cX0_gleaner 39 = .ok (.getfield 47, 3) := dk_180 0 47 (dk_at dksX0_gleaner_1 15 rfl rfl)
theorem dX0_gleaner_42 : decode cX0_gleaner 42 = .ok (.aload_n 0, 1) := dk_42 (dk_at dksX0_gleaner_1 18 rfl rfl)
theorem dX0_gleaner_43 : decode cX0_gleaner 43 = .ok (.getfield 18, 3) := dk_180 0 18 (dk_at dksX0_gleaner_1 19 rfl rfl)
theorem dX0_gleaner_46 : decode cX0_gleaner 46 = .ok (.iload_n 1, 1) := dk_27 (dk_at dksX0_gleaner_1 22 rfl rfl)
theorem dX0_gleaner_47 : decode cX0_gleaner 47 = .ok (.iload_n 2, 1) := dk_28 (dk_at dksX0_gleaner_1 23 rfl rfl)
theorem dX0_gleaner_48 : decode cX0_gleaner 48 = .ok (.invokestatic 51, 3) := dk_184 0 51 (dk_at dksX0_gleaner_2 0 rfl rfl)
theorem dX0_gleaner_51 : decode cX0_gleaner 51 = .ok (.aastore, 1) := dk_83 (dk_at dksX0_gleaner_2 3 rfl rfl)
theorem dX0_gleaner_52 : decode cX0_gleaner 52 = .ok (.aload_n 0, 1) := dk_42 (dk_at dksX0_gleaner_2 4 rfl rfl)
theorem dX0_gleaner_53 : decode cX0_gleaner 53 = .ok (.dup, 1) := dk_89 (dk_at dksX0_gleaner_2 5 rfl rfl)
theorem dX0_gleaner_54 : decode cX0_gleaner 54 = .ok (.getfield 18, 3) := dk_180 0 18 (dk_at dksX0_gleaner_2 6 rfl rfl)
theorem dX0_gleaner_57 : decode cX0_gleaner 57 = .ok (.iconst 1, 1) := dk_4 (dk_at dksX0_gleaner_2 9 rfl rfl)
theorem dX0_gleaner_58 : decode cX0_gleaner 58 = .ok (.iadd, 1) := dk_96 (dk_at dksX0_gleaner_2 10 rfl rfl)
theorem dX0_gleaner_59 : decode cX0_gleaner 59 = .ok (.putfield 18, 3) := dk_181 0 18 (dk_at dksX0_gleaner_2 11 rfl rfl)
theorem dX0_gleaner_62 : decode cX0_gleaner 62 = .ok (.aload_n 0, 1) := dk_42 (dk_at dksX0_gleaner_2 14 rfl rfl)
theorem dX0_gleaner_63 : decode cX0_gleaner 63 = .ok (.getfield 18, 3) := dk_180 0 18 (dk_at dksX0_gleaner_2 15 rfl rfl)
theorem dX0_gleaner_66 : decode cX0_gleaner 66 = .ok (.iconst 1, 1) := dk_4 (dk_at dksX0_gleaner_2 18 rfl rfl)
theorem dX0_gleaner_67 : decode cX0_gleaner 67 = .ok (.isub, 1) := dk_100 (dk_at dksX0_gleaner_2 19 rfl rfl)
theorem dX0_gleaner_68 : decode cX0_gleaner 68 = .ok (.ireturn, 1) := dk_172 (dk_at dksX0_gleaner_2 20 rfl rfl)
abbrev cX0_in : ByteArray := prog_1_method_1_code
def yX0_in : MethodName := ⟨RX0, "in", "(JJJ)Z"⟩
def dkwX0_in_0 : List UInt8 := [30, 32, 148, 155, 0, 14, 30, 22, 4, 148, 157, 0, 7, 4, 167, 0, 4, 3, 172]
abbrev dktX0_in_0 : List UInt8 := dkwX0_in_0 ++ []
theorem dksX0_in_0 : cX0_in.data.toList.drop 0 = dktX0_in_0 := by decide +kernel
theorem dX0_in_0 : decode cX0_in 0 = .ok (.lload_n 0, 1) := dk_30 (dk_at dksX0_in_0 0 rfl rfl)
theorem dX0_in_1 : decode cX0_in 1 = .ok (.lload_n 2, 1) := dk_32 (dk_at dksX0_in_0 1 rfl rfl)
theorem dX0_in_2 : decode cX0_in 2 = .ok (.lcmp, 1) := dk_148 (dk_at dksX0_in_0 2 rfl rfl)
theorem dX0_in_3 : decode cX0_in 3 = .ok (.ifCond .lt 14, 3) := dk_155 0 14 (dk_at dksX0_in_0 3 rfl rfl)
theorem dX0_in_6 : decode cX0_in 6 = .ok (.lload_n 0, 1) := dk_30 (dk_at dksX0_in_0 6 rfl rfl)
theorem dX0_in_7 : decode cX0_in 7 = .ok (.lload 4, 2) := dk_22 4 (dk_at dksX0_in_0 7 rfl rfl)
theorem dX0_in_9 : decode cX0_in 9 = .ok (.lcmp, 1) := dk_148 (dk_at dksX0_in_0 9 rfl rfl)
theorem dX0_in_10 : decode cX0_in 10 = .ok (.ifCond .gt 7, 3) := dk_157 0 7 (dk_at dksX0_in_0 10 rfl rfl)
theorem dX0_in_13 : decode cX0_in 13 = .ok (.iconst 1, 1) := dk_4 (dk_at dksX0_in_0 13 rfl rfl)
theorem dX0_in_14 : decode cX0_in 14 = .ok (.goto 4, 3) := dk_167 0 4 (dk_at dksX0_in_0 14 rfl rfl)
theorem dX0_in_17 : decode cX0_in 17 = .ok (.iconst 0, 1) := dk_3 (dk_at dksX0_in_0 17 rfl rfl)
theorem dX0_in_18 : decode cX0_in 18 = .ok (.ireturn, 1) := dk_172 (dk_at dksX0_in_0 18 rfl rfl)
abbrev cX0_made : ByteArray := prog_1_method_6_code
def yX0_made : MethodName := ⟨RX0, "made", "(II)LGleanersForGaps$Gleaner;"⟩
def dkwX0_made_4 : List UInt8 := [187, 0, 40, 89, 27, 183, 0, 42, 176]
abbrev dktX0_made_4 : List UInt8 := dkwX0_made_4 ++ []
def dkwX0_made_3 : List UInt8 := [183, 0, 33, 176, 187, 0, 34, 89, 27, 183, 0, 36, 176, 187, 0, 37, 89, 27, 183, 0, 39, 176]
abbrev dktX0_made_3 : List UInt8 := dkwX0_made_3 ++ dktX0_made_4
def dkwX0_made_2 : List UInt8 := [187, 0, 22, 89, 27, 183, 0, 24, 176, 187, 0, 28, 89, 27, 183, 0, 30, 176, 187, 0, 31, 89, 27]
abbrev dktX0_made_2 : List UInt8 := dkwX0_made_2 ++ dktX0_made_3
def dkwX0_made_1 : List UInt8 := [170, 0, 0, 0, 0, 0, 80, 0, 0, 0, 1, 0, 0, 0, 5, 0, 0, 0, 35, 0, 0, 0, 44, 0, 0, 0, 53, 0, 0, 0, 62, 0, 0, 0, 71]
abbrev dktX0_made_1 : List UInt8 := dkwX0_made_1 ++ dktX0_made_2
def dkwX0_made_0 : List UInt8 := [26]
abbrev dktX0_made_0 : List UInt8 := dkwX0_made_0 ++ dktX0_made_1
theorem dksX0_made_0 : cX0_made.data.toList.drop 0 = dktX0_made_0 := by decide +kernel
theorem dksX0_made_1 : cX0_made.data.toList.drop 1 = dktX0_made_1 := dk_seg dksX0_made_0 1 rfl rfl
theorem dksX0_made_2 : cX0_made.data.toList.drop 36 = dktX0_made_2 := dk_seg dksX0_made_1 35 rfl rfl
theorem dksX0_made_3 : cX0_made.data.toList.drop 59 = dktX0_made_3 := dk_seg dksX0_made_2 23 rfl rfl
theorem dksX0_made_4 : cX0_made.data.toList.drop 81 = dktX0_made_4 := dk_seg dksX0_made_3 22 rfl rfl
theorem dX0_made_0 : decode cX0_made 0 = .ok (.iload_n 0, 1) := dk_26 (dk_at dksX0_made_0 0 rfl rfl)
theorem dX0_made_1 : decode cX0_made 1 = .ok (.tableswitch 80 1 5 #[35, 44, 53, 62, 71], 35) := by decide +kernel
theorem dX0_made_36 : decode cX0_made 36 = .ok (.new 22, 3) := dk_187 0 22 (dk_at dksX0_made_2 0 rfl rfl)
theorem dX0_made_39 : decode cX0_made 39 = .ok (.dup, 1) := dk_89 (dk_at dksX0_made_2 3 rfl rfl)
theorem dX0_made_40 : decode cX0_made 40 = .ok (.iload_n 1, 1) := dk_27 (dk_at dksX0_made_2 4 rfl rfl)
theorem dX0_made_41 : decode cX0_made 41 = .ok (.invokespecial 24, 3) := dk_183 0 24 (dk_at dksX0_made_2 5 rfl rfl)
theorem dX0_made_44 : decode cX0_made 44 = .ok (.areturn, 1) := dk_176 (dk_at dksX0_made_2 8 rfl rfl)
theorem dX0_made_45 : decode cX0_made 45 = .ok (.new 28, 3) := dk_187 0 28 (dk_at dksX0_made_2 9 rfl rfl)
theorem dX0_made_48 : decode cX0_made 48 = .ok (.dup, 1) := dk_89 (dk_at dksX0_made_2 12 rfl rfl)
theorem dX0_made_49 : decode cX0_made 49 = .ok (.iload_n 1, 1) := dk_27 (dk_at dksX0_made_2 13 rfl rfl)
theorem dX0_made_50 : decode cX0_made 50 = .ok (.invokespecial 30, 3) := dk_183 0 30 (dk_at dksX0_made_2 14 rfl rfl)
theorem dX0_made_53 : decode cX0_made 53 = .ok (.areturn, 1) := dk_176 (dk_at dksX0_made_2 17 rfl rfl)
theorem dX0_made_54 : decode cX0_made 54 = .ok (.new 31, 3) := dk_187 0 31 (dk_at dksX0_made_2 18 rfl rfl)
theorem dX0_made_57 : decode cX0_made 57 = .ok (.dup, 1) := dk_89 (dk_at dksX0_made_2 21 rfl rfl)
theorem dX0_made_58 : decode cX0_made 58 = .ok (.iload_n 1, 1) := dk_27 (dk_at dksX0_made_2 22 rfl rfl)
theorem dX0_made_59 : decode cX0_made 59 = .ok (.invokespecial 33, 3) := dk_183 0 33 (dk_at dksX0_made_3 0 rfl rfl)
theorem dX0_made_62 : decode cX0_made 62 = .ok (.areturn, 1) := dk_176 (dk_at dksX0_made_3 3 rfl rfl)
theorem dX0_made_63 : decode cX0_made 63 = .ok (.new 34, 3) := dk_187 0 34 (dk_at dksX0_made_3 4 rfl rfl)
theorem dX0_made_66 : decode cX0_made 66 = .ok (.dup, 1) := dk_89 (dk_at dksX0_made_3 7 rfl rfl)
theorem dX0_made_67 : decode cX0_made 67 = .ok (.iload_n 1, 1) := dk_27 (dk_at dksX0_made_3 8 rfl rfl)
theorem dX0_made_68 : decode cX0_made 68 = .ok (.invokespecial 36, 3) := dk_183 0 36 (dk_at dksX0_made_3 9 rfl rfl)
theorem dX0_made_71 : decode cX0_made 71 = .ok (.areturn, 1) := dk_176 (dk_at dksX0_made_3 12 rfl rfl)
theorem dX0_made_72 : decode cX0_made 72 = .ok (.new 37, 3) := dk_187 0 37 (dk_at dksX0_made_3 13 rfl rfl)
theorem dX0_made_75 : decode cX0_made 75 = .ok (.dup, 1) := dk_89 (dk_at dksX0_made_3 16 rfl rfl)
theorem dX0_made_76 : decode cX0_made 76 = .ok (.iload_n 1, 1) := dk_27 (dk_at dksX0_made_3 17 rfl rfl)
theorem dX0_made_77 : decode cX0_made 77 = .ok (.invokespecial 39, 3) := dk_183 0 39 (dk_at dksX0_made_3 18 rfl rfl)
theorem dX0_made_80 : decode cX0_made 80 = .ok (.areturn, 1) := dk_176 (dk_at dksX0_made_3 21 rfl rfl)
theorem dX0_made_81 : decode cX0_made 81 = .ok (.new 40, 3) := dk_187 0 40 (dk_at dksX0_made_4 0 rfl rfl)
theorem dX0_made_84 : decode cX0_made 84 = .ok (.dup, 1) := dk_89 (dk_at dksX0_made_4 3 rfl rfl)
theorem dX0_made_85 : decode cX0_made 85 = .ok (.iload_n 1, 1) := dk_27 (dk_at dksX0_made_4 4 rfl rfl)
theorem dX0_made_86 : decode cX0_made 86 = .ok (.invokespecial 42, 3) := dk_183 0 42 (dk_at dksX0_made_4 5 rfl rfl)
theorem dX0_made_89 : decode cX0_made 89 = .ok (.areturn, 1) := dk_176 (dk_at dksX0_made_4 8 rfl rfl)
abbrev cX0_lay : ByteArray := prog_1_method_8_code
def yX0_lay : MethodName := ⟨RX0, "lay", "(III)I"⟩
def dkwX0_lay_2 : List UInt8 := [27, 29, 79, 42, 27, 182, 0, 68, 172]
abbrev dktX0_lay_2 : List UInt8 := dkwX0_lay_2 ++ []
def dkwX0_lay_1 : List UInt8 := [120, 4, 100, 133, 184, 0, 14, 154, 0, 6, 16, 254, 172, 42, 180, 0, 61, 27, 28, 79, 42, 180, 0, 65]
abbrev dktX0_lay_1 : List UInt8 := dkwX0_lay_1 ++ dktX0_lay_2
def dkwX0_lay_0 : List UInt8 := [27, 184, 0, 55, 153, 0, 30, 28, 133, 9, 20, 0, 59, 184, 0, 14, 153, 0, 18, 29, 133, 9, 4, 28]
abbrev dktX0_lay_0 : List UInt8 := dkwX0_lay_0 ++ dktX0_lay_1
theorem dksX0_lay_0 : cX0_lay.data.toList.drop 0 = dktX0_lay_0 := by decide +kernel
theorem dksX0_lay_1 : cX0_lay.data.toList.drop 24 = dktX0_lay_1 := dk_seg dksX0_lay_0 24 rfl rfl
theorem dksX0_lay_2 : cX0_lay.data.toList.drop 48 = dktX0_lay_2 := dk_seg dksX0_lay_1 24 rfl rfl
theorem dX0_lay_0 : decode cX0_lay 0 = .ok (.iload_n 1, 1) := dk_27 (dk_at dksX0_lay_0 0 rfl rfl)
theorem dX0_lay_1 : decode cX0_lay 1 = .ok (.invokestatic 55, 3) := dk_184 0 55 (dk_at dksX0_lay_0 1 rfl rfl)
theorem dX0_lay_4 : decode cX0_lay 4 = .ok (.ifCond .eq 30, 3) := dk_153 0 30 (dk_at dksX0_lay_0 4 rfl rfl)
theorem dX0_lay_7 : decode cX0_lay 7 = .ok (.iload_n 2, 1) := dk_28 (dk_at dksX0_lay_0 7 rfl rfl)
theorem dX0_lay_8 : decode cX0_lay 8 = .ok (.i2l, 1) := dk_133 (dk_at dksX0_lay_0 8 rfl rfl)
theorem dX0_lay_9 : decode cX0_lay 9 = .ok (.lconst 0, 1) := dk_9 (dk_at dksX0_lay_0 9 rfl rfl)
theorem dX0_lay_10 : decode cX0_lay 10 = .ok (.ldc2_w 59, 3) := dk_20 0 59 (dk_at dksX0_lay_0 10 rfl rfl)
theorem dX0_lay_13 : decode cX0_lay 13 = .ok (.invokestatic 14, 3) := dk_184 0 14 (dk_at dksX0_lay_0 13 rfl rfl)
theorem dX0_lay_16 : decode cX0_lay 16 = .ok (.ifCond .eq 18, 3) := dk_153 0 18 (dk_at dksX0_lay_0 16 rfl rfl)
theorem dX0_lay_19 : decode cX0_lay 19 = .ok (.iload_n 3, 1) := dk_29 (dk_at dksX0_lay_0 19 rfl rfl)
theorem dX0_lay_20 : decode cX0_lay 20 = .ok (.i2l, 1) := dk_133 (dk_at dksX0_lay_0 20 rfl rfl)
theorem dX0_lay_21 : decode cX0_lay 21 = .ok (.lconst 0, 1) := dk_9 (dk_at dksX0_lay_0 21 rfl rfl)
theorem dX0_lay_22 : decode cX0_lay 22 = .ok (.iconst 1, 1) := dk_4 (dk_at dksX0_lay_0 22 rfl rfl)
theorem dX0_lay_23 : decode cX0_lay 23 = .ok (.iload_n 2, 1) := dk_28 (dk_at dksX0_lay_0 23 rfl rfl)
theorem dX0_lay_24 : decode cX0_lay 24 = .ok (.ishl, 1) := dk_120 (dk_at dksX0_lay_1 0 rfl rfl)
theorem dX0_lay_25 : decode cX0_lay 25 = .ok (.iconst 1, 1) := dk_4 (dk_at dksX0_lay_1 1 rfl rfl)
theorem dX0_lay_26 : decode cX0_lay 26 = .ok (.isub, 1) := dk_100 (dk_at dksX0_lay_1 2 rfl rfl)
theorem dX0_lay_27 : decode cX0_lay 27 = .ok (.i2l, 1) := dk_133 (dk_at dksX0_lay_1 3 rfl rfl)
theorem dX0_lay_28 : decode cX0_lay 28 = .ok (.invokestatic 14, 3) := dk_184 0 14 (dk_at dksX0_lay_1 4 rfl rfl)
theorem dX0_lay_31 : decode cX0_lay 31 = .ok (.ifCond .ne 6, 3) := dk_154 0 6 (dk_at dksX0_lay_1 7 rfl rfl)
theorem dX0_lay_34 : decode cX0_lay 34 = .ok (.bipush (-2), 2) := dk_16 254 (dk_at dksX0_lay_1 10 rfl rfl)
theorem dX0_lay_36 : decode cX0_lay 36 = .ok (.ireturn, 1) := dk_172 (dk_at dksX0_lay_1 12 rfl rfl)
theorem dX0_lay_37 : decode cX0_lay 37 = .ok (.aload_n 0, 1) := dk_42 (dk_at dksX0_lay_1 13 rfl rfl)
theorem dX0_lay_38 : decode cX0_lay 38 = .ok (.getfield 61, 3) := dk_180 0 61 (dk_at dksX0_lay_1 14 rfl rfl)
theorem dX0_lay_41 : decode cX0_lay 41 = .ok (.iload_n 1, 1) := dk_27 (dk_at dksX0_lay_1 17 rfl rfl)
theorem dX0_lay_42 : decode cX0_lay 42 = .ok (.iload_n 2, 1) := dk_28 (dk_at dksX0_lay_1 18 rfl rfl)
theorem dX0_lay_43 : decode cX0_lay 43 = .ok (.iastore, 1) := dk_79 (dk_at dksX0_lay_1 19 rfl rfl)
theorem dX0_lay_44 : decode cX0_lay 44 = .ok (.aload_n 0, 1) := dk_42 (dk_at dksX0_lay_1 20 rfl rfl)
theorem dX0_lay_45 : decode cX0_lay 45 = .ok (.getfield 65, 3) := dk_180 0 65 (dk_at dksX0_lay_1 21 rfl rfl)
theorem dX0_lay_48 : decode cX0_lay 48 = .ok (.iload_n 1, 1) := dk_27 (dk_at dksX0_lay_2 0 rfl rfl)
theorem dX0_lay_49 : decode cX0_lay 49 = .ok (.iload_n 3, 1) := dk_29 (dk_at dksX0_lay_2 1 rfl rfl)
theorem dX0_lay_50 : decode cX0_lay 50 = .ok (.iastore, 1) := dk_79 (dk_at dksX0_lay_2 2 rfl rfl)
theorem dX0_lay_51 : decode cX0_lay 51 = .ok (.aload_n 0, 1) := dk_42 (dk_at dksX0_lay_2 3 rfl rfl)
theorem dX0_lay_52 : decode cX0_lay 52 = .ok (.iload_n 1, 1) := dk_27 (dk_at dksX0_lay_2 4 rfl rfl)
theorem dX0_lay_53 : decode cX0_lay 53 = .ok (.invokevirtual 68, 3) := dk_182 0 68 (dk_at dksX0_lay_2 5 rfl rfl)
theorem dX0_lay_56 : decode cX0_lay 56 = .ok (.ireturn, 1) := dk_172 (dk_at dksX0_lay_2 8 rfl rfl)
abbrev cX0_isRow : ByteArray := prog_1_method_4_code
def yX0_isRow : MethodName := ⟨RX0, "isRow", "(I)Z"⟩
def dkwX0_isRow_0 : List UInt8 := [26, 133, 9, 20, 0, 12, 184, 0, 14, 172]
abbrev dktX0_isRow_0 : List UInt8 := dkwX0_isRow_0 ++ []
theorem dksX0_isRow_0 : cX0_isRow.data.toList.drop 0 = dktX0_isRow_0 := by decide +kernel
theorem dX0_isRow_0 : decode cX0_isRow 0 = .ok (.iload_n 0, 1) := dk_26 (dk_at dksX0_isRow_0 0 rfl rfl)
theorem dX0_isRow_1 : decode cX0_isRow 1 = .ok (.i2l, 1) := dk_133 (dk_at dksX0_isRow_0 1 rfl rfl)
theorem dX0_isRow_2 : decode cX0_isRow 2 = .ok (.lconst 0, 1) := dk_9 (dk_at dksX0_isRow_0 2 rfl rfl)
theorem dX0_isRow_3 : decode cX0_isRow 3 = .ok (.ldc2_w 12, 3) := dk_20 0 12 (dk_at dksX0_isRow_0 3 rfl rfl)
theorem dX0_isRow_6 : decode cX0_isRow 6 = .ok (.invokestatic 14, 3) := dk_184 0 14 (dk_at dksX0_isRow_0 6 rfl rfl)
theorem dX0_isRow_9 : decode cX0_isRow 9 = .ok (.ireturn, 1) := dk_172 (dk_at dksX0_isRow_0 9 rfl rfl)
abbrev cX0_gapsOf : ByteArray := prog_1_method_9_code
def yX0_gapsOf : MethodName := ⟨RX0, "gapsOf", "(I)I"⟩
def dkwX0_gapsOf_0 : List UInt8 := [42, 180, 0, 61, 27, 46, 42, 180, 0, 65, 27, 46, 184, 0, 72, 100, 172]
abbrev dktX0_gapsOf_0 : List UInt8 := dkwX0_gapsOf_0 ++ []
theorem dksX0_gapsOf_0 : cX0_gapsOf.data.toList.drop 0 = dktX0_gapsOf_0 := by decide +kernel
theorem dX0_gapsOf_0 : decode cX0_gapsOf 0 = .ok (.aload_n 0, 1) := dk_42 (dk_at dksX0_gapsOf_0 0 rfl rfl)
theorem dX0_gapsOf_1 : decode cX0_gapsOf 1 = .ok (.getfield 61, 3) := dk_180 0 61 (dk_at dksX0_gapsOf_0 1 rfl rfl)
theorem dX0_gapsOf_4 : decode cX0_gapsOf 4 = .ok (.iload_n 1, 1) := dk_27 (dk_at dksX0_gapsOf_0 4 rfl rfl)
theorem dX0_gapsOf_5 : decode cX0_gapsOf 5 = .ok (.iaload, 1) := dk_46 (dk_at dksX0_gapsOf_0 5 rfl rfl)
theorem dX0_gapsOf_6 : decode cX0_gapsOf 6 = .ok (.aload_n 0, 1) := dk_42 (dk_at dksX0_gapsOf_0 6 rfl rfl)
theorem dX0_gapsOf_7 : decode cX0_gapsOf 7 = .ok (.getfield 65, 3) := dk_180 0 65 (dk_at dksX0_gapsOf_0 7 rfl rfl)
theorem dX0_gapsOf_10 : decode cX0_gapsOf 10 = .ok (.iload_n 1, 1) := dk_27 (dk_at dksX0_gapsOf_0 10 rfl rfl)
theorem dX0_gapsOf_11 : decode cX0_gapsOf 11 = .ok (.iaload, 1) := dk_46 (dk_at dksX0_gapsOf_0 11 rfl rfl)
theorem dX0_gapsOf_12 : decode cX0_gapsOf 12 = .ok (.invokestatic 72, 3) := dk_184 0 72 (dk_at dksX0_gapsOf_0 12 rfl rfl)
theorem dX0_gapsOf_15 : decode cX0_gapsOf 15 = .ok (.isub, 1) := dk_100 (dk_at dksX0_gapsOf_0 15 rfl rfl)
theorem dX0_gapsOf_16 : decode cX0_gapsOf 16 = .ok (.ireturn, 1) := dk_172 (dk_at dksX0_gapsOf_0 16 rfl rfl)
abbrev cX0_set : ByteArray := prog_1_method_12_code
def yX0_set : MethodName := ⟨RX0, "set", "(III)I"⟩
def dkwX0_set_1 : List UInt8 := [29, 182, 0, 98, 21, 4, 172]
abbrev dktX0_set_1 : List UInt8 := dkwX0_set_1 ++ []
def dkwX0_set_0 : List UInt8 := [42, 27, 28, 29, 182, 0, 91, 154, 0, 6, 16, 254, 172, 42, 28, 27, 182, 0, 95, 54, 4, 42, 27, 28]
abbrev dktX0_set_0 : List UInt8 := dkwX0_set_0 ++ dktX0_set_1
theorem dksX0_set_0 : cX0_set.data.toList.drop 0 = dktX0_set_0 := by decide +kernel
theorem dksX0_set_1 : cX0_set.data.toList.drop 24 = dktX0_set_1 := dk_seg dksX0_set_0 24 rfl rfl
theorem dX0_set_0 : decode cX0_set 0 = .ok (.aload_n 0, 1) := dk_42 (dk_at dksX0_set_0 0 rfl rfl)
theorem dX0_set_1 : decode cX0_set 1 = .ok (.iload_n 1, 1) := dk_27 (dk_at dksX0_set_0 1 rfl rfl)
theorem dX0_set_2 : decode cX0_set 2 = .ok (.iload_n 2, 1) := dk_28 (dk_at dksX0_set_0 2 rfl rfl)
theorem dX0_set_3 : decode cX0_set 3 = .ok (.iload_n 3, 1) := dk_29 (dk_at dksX0_set_0 3 rfl rfl)
theorem dX0_set_4 : decode cX0_set 4 = .ok (.invokevirtual 91, 3) := dk_182 0 91 (dk_at dksX0_set_0 4 rfl rfl)
theorem dX0_set_7 : decode cX0_set 7 = .ok (.ifCond .ne 6, 3) := dk_154 0 6 (dk_at dksX0_set_0 7 rfl rfl)
theorem dX0_set_10 : decode cX0_set 10 = .ok (.bipush (-2), 2) := dk_16 254 (dk_at dksX0_set_0 10 rfl rfl)
theorem dX0_set_12 : decode cX0_set 12 = .ok (.ireturn, 1) := dk_172 (dk_at dksX0_set_0 12 rfl rfl)
theorem dX0_set_13 : decode cX0_set 13 = .ok (.aload_n 0, 1) := dk_42 (dk_at dksX0_set_0 13 rfl rfl)
theorem dX0_set_14 : decode cX0_set 14 = .ok (.iload_n 2, 1) := dk_28 (dk_at dksX0_set_0 14 rfl rfl)
theorem dX0_set_15 : decode cX0_set 15 = .ok (.iload_n 1, 1) := dk_27 (dk_at dksX0_set_0 15 rfl rfl)
theorem dX0_set_16 : decode cX0_set 16 = .ok (.invokevirtual 95, 3) := dk_182 0 95 (dk_at dksX0_set_0 16 rfl rfl)
theorem dX0_set_19 : decode cX0_set 19 = .ok (.istore 4, 2) := dk_54 4 (dk_at dksX0_set_0 19 rfl rfl)
theorem dX0_set_21 : decode cX0_set 21 = .ok (.aload_n 0, 1) := dk_42 (dk_at dksX0_set_0 21 rfl rfl)
theorem dX0_set_22 : decode cX0_set 22 = .ok (.iload_n 1, 1) := dk_27 (dk_at dksX0_set_0 22 rfl rfl)
theorem dX0_set_23 : decode cX0_set 23 = .ok (.iload_n 2, 1) := dk_28 (dk_at dksX0_set_0 23 rfl rfl)
theorem dX0_set_24 : decode cX0_set 24 = .ok (.iload_n 3, 1) := dk_29 (dk_at dksX0_set_1 0 rfl rfl)
theorem dX0_set_25 : decode cX0_set 25 = .ok (.invokevirtual 98, 3) := dk_182 0 98 (dk_at dksX0_set_1 1 rfl rfl)
theorem dX0_set_28 : decode cX0_set 28 = .ok (.iload 4, 2) := dk_21 4 (dk_at dksX0_set_1 4 rfl rfl)
theorem dX0_set_30 : decode cX0_set 30 = .ok (.ireturn, 1) := dk_172 (dk_at dksX0_set_1 6 rfl rfl)
abbrev cX0_isSo : ByteArray := prog_1_method_10_code
def yX0_isSo : MethodName := ⟨RX0, "isSo", "(III)Z"⟩
def dkwX0_isSo_4 : List UInt8 := [153, 0, 19, 29, 133, 9, 20, 0, 77, 184, 0, 14, 153, 0, 7, 4, 167, 0, 4, 3, 172]
abbrev dktX0_isSo_4 : List UInt8 := dkwX0_isSo_4 ++ []
def dkwX0_isSo_3 : List UInt8 := [184, 0, 14, 153, 0, 7, 4, 167, 0, 4, 3, 172, 27, 5, 160, 0, 27, 42, 28, 182, 0, 79]
abbrev dktX0_isSo_3 : List UInt8 := dkwX0_isSo_3 ++ dktX0_isSo_4
def dkwX0_isSo_2 : List UInt8 := [29, 133, 9, 20, 0, 77, 184, 0, 14, 172, 42, 28, 182, 0, 79, 153, 0, 19, 29, 133, 9, 20, 0, 45]
abbrev dktX0_isSo_2 : List UInt8 := dkwX0_isSo_2 ++ dktX0_isSo_3
def dkwX0_isSo_1 : List UInt8 := [171, 0, 0, 0, 0, 0, 63, 0, 0, 0, 2, 0, 0, 0, 0, 0, 0, 0, 27, 0, 0, 0, 1, 0, 0, 0, 37]
abbrev dktX0_isSo_1 : List UInt8 := dkwX0_isSo_1 ++ dktX0_isSo_2
def dkwX0_isSo_0 : List UInt8 := [27]
abbrev dktX0_isSo_0 : List UInt8 := dkwX0_isSo_0 ++ dktX0_isSo_1
theorem dksX0_isSo_0 : cX0_isSo.data.toList.drop 0 = dktX0_isSo_0 := by decide +kernel
theorem dksX0_isSo_1 : cX0_isSo.data.toList.drop 1 = dktX0_isSo_1 := dk_seg dksX0_isSo_0 1 rfl rfl
theorem dksX0_isSo_2 : cX0_isSo.data.toList.drop 28 = dktX0_isSo_2 := dk_seg dksX0_isSo_1 27 rfl rfl
theorem dksX0_isSo_3 : cX0_isSo.data.toList.drop 52 = dktX0_isSo_3 := dk_seg dksX0_isSo_2 24 rfl rfl
theorem dksX0_isSo_4 : cX0_isSo.data.toList.drop 74 = dktX0_isSo_4 := dk_seg dksX0_isSo_3 22 rfl rfl
theorem dX0_isSo_0 : decode cX0_isSo 0 = .ok (.iload_n 1, 1) := dk_27 (dk_at dksX0_isSo_0 0 rfl rfl)
theorem dX0_isSo_1 : decode cX0_isSo 1 = .ok (.lookupswitch 63 #[(0, 27), (1, 37)], 27) := by decide +kernel
theorem dX0_isSo_28 : decode cX0_isSo 28 = .ok (.iload_n 3, 1) := dk_29 (dk_at dksX0_isSo_2 0 rfl rfl)
theorem dX0_isSo_29 : decode cX0_isSo 29 = .ok (.i2l, 1) := dk_133 (dk_at dksX0_isSo_2 1 rfl rfl)
theorem dX0_isSo_30 : decode cX0_isSo 30 = .ok (.lconst 0, 1) := dk_9 (dk_at dksX0_isSo_2 2 rfl rfl)
theorem dX0_isSo_31 : decode cX0_isSo 31 = .ok (.ldc2_w 77, 3) := dk_20 0 77 (dk_at dksX0_isSo_2 3 rfl rfl)
theorem dX0_isSo_34 : decode cX0_isSo 34 = .ok (.invokestatic 14, 3) := dk_184 0 14 (dk_at dksX0_isSo_2 6 rfl rfl)
theorem dX0_isSo_37 : decode cX0_isSo 37 = .ok (.ireturn, 1) := dk_172 (dk_at dksX0_isSo_2 9 rfl rfl)
theorem dX0_isSo_38 : decode cX0_isSo 38 = .ok (.aload_n 0, 1) := dk_42 (dk_at dksX0_isSo_2 10 rfl rfl)
theorem dX0_isSo_39 : decode cX0_isSo 39 = .ok (.iload_n 2, 1) := dk_28 (dk_at dksX0_isSo_2 11 rfl rfl)
theorem dX0_isSo_40 : decode cX0_isSo 40 = .ok (.invokevirtual 79, 3) := dk_182 0 79 (dk_at dksX0_isSo_2 12 rfl rfl)
theorem dX0_isSo_43 : decode cX0_isSo 43 = .ok (.ifCond .eq 19, 3) := dk_153 0 19 (dk_at dksX0_isSo_2 15 rfl rfl)
theorem dX0_isSo_46 : decode cX0_isSo 46 = .ok (.iload_n 3, 1) := dk_29 (dk_at dksX0_isSo_2 18 rfl rfl)
theorem dX0_isSo_47 : decode cX0_isSo 47 = .ok (.i2l, 1) := dk_133 (dk_at dksX0_isSo_2 19 rfl rfl)
theorem dX0_isSo_48 : decode cX0_isSo 48 = .ok (.lconst 0, 1) := dk_9 (dk_at dksX0_isSo_2 20 rfl rfl)
theorem dX0_isSo_49 : decode cX0_isSo 49 = .ok (.ldc2_w 45, 3) := dk_20 0 45 (dk_at dksX0_isSo_2 21 rfl rfl)
theorem dX0_isSo_52 : decode cX0_isSo 52 = .ok (.invokestatic 14, 3) := dk_184 0 14 (dk_at dksX0_isSo_3 0 rfl rfl)
theorem dX0_isSo_55 : decode cX0_isSo 55 = .ok (.ifCond .eq 7, 3) := dk_153 0 7 (dk_at dksX0_isSo_3 3 rfl rfl)
theorem dX0_isSo_58 : decode cX0_isSo 58 = .ok (.iconst 1, 1) := dk_4 (dk_at dksX0_isSo_3 6 rfl rfl)
theorem dX0_isSo_59 : decode cX0_isSo 59 = .ok (.goto 4, 3) := dk_167 0 4 (dk_at dksX0_isSo_3 7 rfl rfl)
theorem dX0_isSo_62 : decode cX0_isSo 62 = .ok (.iconst 0, 1) := dk_3 (dk_at dksX0_isSo_3 10 rfl rfl)
theorem dX0_isSo_63 : decode cX0_isSo 63 = .ok (.ireturn, 1) := dk_172 (dk_at dksX0_isSo_3 11 rfl rfl)
theorem dX0_isSo_64 : decode cX0_isSo 64 = .ok (.iload_n 1, 1) := dk_27 (dk_at dksX0_isSo_3 12 rfl rfl)
theorem dX0_isSo_65 : decode cX0_isSo 65 = .ok (.iconst 2, 1) := dk_5 (dk_at dksX0_isSo_3 13 rfl rfl)
theorem dX0_isSo_66 : decode cX0_isSo 66 = .ok (.if_icmp .ne 27, 3) := dk_160 0 27 (dk_at dksX0_isSo_3 14 rfl rfl)
theorem dX0_isSo_69 : decode cX0_isSo 69 = .ok (.aload_n 0, 1) := dk_42 (dk_at dksX0_isSo_3 17 rfl rfl)
theorem dX0_isSo_70 : decode cX0_isSo 70 = .ok (.iload_n 2, 1) := dk_28 (dk_at dksX0_isSo_3 18 rfl rfl)
theorem dX0_isSo_71 : decode cX0_isSo 71 = .ok (.invokevirtual 79, 3) := dk_182 0 79 (dk_at dksX0_isSo_3 19 rfl rfl)
theorem dX0_isSo_74 : decode cX0_isSo 74 = .ok (.ifCond .eq 19, 3) := dk_153 0 19 (dk_at dksX0_isSo_4 0 rfl rfl)
theorem dX0_isSo_77 : decode cX0_isSo 77 = .ok (.iload_n 3, 1) := dk_29 (dk_at dksX0_isSo_4 3 rfl rfl)
theorem dX0_isSo_78 : decode cX0_isSo 78 = .ok (.i2l, 1) := dk_133 (dk_at dksX0_isSo_4 4 rfl rfl)
theorem dX0_isSo_79 : decode cX0_isSo 79 = .ok (.lconst 0, 1) := dk_9 (dk_at dksX0_isSo_4 5 rfl rfl)
theorem dX0_isSo_80 : decode cX0_isSo 80 = .ok (.ldc2_w 77, 3) := dk_20 0 77 (dk_at dksX0_isSo_4 6 rfl rfl)
theorem dX0_isSo_83 : decode cX0_isSo 83 = .ok (.invokestatic 14, 3) := dk_184 0 14 (dk_at dksX0_isSo_4 9 rfl rfl)
theorem dX0_isSo_86 : decode cX0_isSo 86 = .ok (.ifCond .eq 7, 3) := dk_153 0 7 (dk_at dksX0_isSo_4 12 rfl rfl)
theorem dX0_isSo_89 : decode cX0_isSo 89 = .ok (.iconst 1, 1) := dk_4 (dk_at dksX0_isSo_4 15 rfl rfl)
theorem dX0_isSo_90 : decode cX0_isSo 90 = .ok (.goto 4, 3) := dk_167 0 4 (dk_at dksX0_isSo_4 16 rfl rfl)
theorem dX0_isSo_93 : decode cX0_isSo 93 = .ok (.iconst 0, 1) := dk_3 (dk_at dksX0_isSo_4 19 rfl rfl)
theorem dX0_isSo_94 : decode cX0_isSo 94 = .ok (.ireturn, 1) := dk_172 (dk_at dksX0_isSo_4 20 rfl rfl)
abbrev cX0_isOne : ByteArray := prog_1_method_5_code
def yX0_isOne : MethodName := ⟨RX0, "isOne", "(I)Z"⟩
def dkwX0_isOne_0 : List UInt8 := [27, 133, 9, 42, 180, 0, 18, 4, 100, 133, 184, 0, 14, 172]
abbrev dktX0_isOne_0 : List UInt8 := dkwX0_isOne_0 ++ []
theorem dksX0_isOne_0 : cX0_isOne.data.toList.drop 0 = dktX0_isOne_0 := by decide +kernel
theorem dX0_isOne_0 : decode cX0_isOne 0 = .ok (.iload_n 1, 1) := dk_27 (dk_at dksX0_isOne_0 0 rfl rfl)
theorem dX0_isOne_1 : decode cX0_isOne 1 = .ok (.i2l, 1) := dk_133 (dk_at dksX0_isOne_0 1 rfl rfl)
theorem dX0_isOne_2 : decode cX0_isOne 2 = .ok (.lconst 0, 1) := dk_9 (dk_at dksX0_isOne_0 2 rfl rfl)
theorem dX0_isOne_3 : decode cX0_isOne 3 = .ok (.aload_n 0, 1) := dk_42 (dk_at dksX0_isOne_0 3 rfl rfl)
theorem dX0_isOne_4 : decode cX0_isOne 4 = .ok (.getfield 18, 3) := dk_180 0 18 (dk_at dksX0_isOne_0 4 rfl rfl)
theorem dX0_isOne_7 : decode cX0_isOne 7 = .ok (.iconst 1, 1) := dk_4 (dk_at dksX0_isOne_0 7 rfl rfl)
theorem dX0_isOne_8 : decode cX0_isOne 8 = .ok (.isub, 1) := dk_100 (dk_at dksX0_isOne_0 8 rfl rfl)
theorem dX0_isOne_9 : decode cX0_isOne 9 = .ok (.i2l, 1) := dk_133 (dk_at dksX0_isOne_0 9 rfl rfl)
theorem dX0_isOne_10 : decode cX0_isOne 10 = .ok (.invokestatic 14, 3) := dk_184 0 14 (dk_at dksX0_isOne_0 10 rfl rfl)
theorem dX0_isOne_13 : decode cX0_isOne 13 = .ok (.ireturn, 1) := dk_172 (dk_at dksX0_isOne_0 13 rfl rfl)
abbrev cX0_told : ByteArray := prog_1_method_15_code
def yX0_told : MethodName := ⟨RX0, "told", "(II)I"⟩
def dkwX0_told_3 : List UInt8 := [16, 254, 172]
abbrev dktX0_told_3 : List UInt8 := dkwX0_told_3 ++ []
def dkwX0_told_2 : List UInt8 := [184, 0, 14, 153, 0, 20, 42, 27, 182, 0, 79, 153, 0, 12, 42, 27, 28, 182, 0, 125, 167, 0, 5]
abbrev dktX0_told_2 : List UInt8 := dkwX0_told_2 ++ dktX0_told_3
def dkwX0_told_1 : List UInt8 := [184, 0, 55, 153, 0, 12, 42, 27, 28, 182, 0, 120, 167, 0, 5, 16, 254, 172, 28, 133, 10, 20, 0, 123]
abbrev dktX0_told_1 : List UInt8 := dkwX0_told_1 ++ dktX0_told_2
def dkwX0_told_0 : List UInt8 := [28, 154, 0, 8, 42, 180, 0, 82, 172, 28, 133, 20, 0, 43, 20, 0, 118, 184, 0, 14, 153, 0, 22, 27]
abbrev dktX0_told_0 : List UInt8 := dkwX0_told_0 ++ dktX0_told_1
theorem dksX0_told_0 : cX0_told.data.toList.drop 0 = dktX0_told_0 := by decide +kernel
theorem dksX0_told_1 : cX0_told.data.toList.drop 24 = dktX0_told_1 := dk_seg dksX0_told_0 24 rfl rfl
theorem dksX0_told_2 : cX0_told.data.toList.drop 48 = dktX0_told_2 := dk_seg dksX0_told_1 24 rfl rfl
theorem dksX0_told_3 : cX0_told.data.toList.drop 71 = dktX0_told_3 := dk_seg dksX0_told_2 23 rfl rfl
theorem dX0_told_0 : decode cX0_told 0 = .ok (.iload_n 2, 1) := dk_28 (dk_at dksX0_told_0 0 rfl rfl)
theorem dX0_told_1 : decode cX0_told 1 = .ok (.ifCond .ne 8, 3) := dk_154 0 8 (dk_at dksX0_told_0 1 rfl rfl)
theorem dX0_told_4 : decode cX0_told 4 = .ok (.aload_n 0, 1) := dk_42 (dk_at dksX0_told_0 4 rfl rfl)
theorem dX0_told_5 : decode cX0_told 5 = .ok (.getfield 82, 3) := dk_180 0 82 (dk_at dksX0_told_0 5 rfl rfl)
theorem dX0_told_8 : decode cX0_told 8 = .ok (.ireturn, 1) := dk_172 (dk_at dksX0_told_0 8 rfl rfl)
theorem dX0_told_9 : decode cX0_told 9 = .ok (.iload_n 2, 1) := dk_28 (dk_at dksX0_told_0 9 rfl rfl)
theorem dX0_told_10 : decode cX0_told 10 = .ok (.i2l, 1) := dk_133 (dk_at dksX0_told_0 10 rfl rfl)
theorem dX0_told_11 : decode cX0_told 11 = .ok (.ldc2_w 43, 3) := dk_20 0 43 (dk_at dksX0_told_0 11 rfl rfl)
theorem dX0_told_14 : decode cX0_told 14 = .ok (.ldc2_w 118, 3) := dk_20 0 118 (dk_at dksX0_told_0 14 rfl rfl)
theorem dX0_told_17 : decode cX0_told 17 = .ok (.invokestatic 14, 3) := dk_184 0 14 (dk_at dksX0_told_0 17 rfl rfl)
theorem dX0_told_20 : decode cX0_told 20 = .ok (.ifCond .eq 22, 3) := dk_153 0 22 (dk_at dksX0_told_0 20 rfl rfl)
theorem dX0_told_23 : decode cX0_told 23 = .ok (.iload_n 1, 1) := dk_27 (dk_at dksX0_told_0 23 rfl rfl)
theorem dX0_told_24 : decode cX0_told 24 = .ok (.invokestatic 55, 3) := dk_184 0 55 (dk_at dksX0_told_1 0 rfl rfl)
theorem dX0_told_27 : decode cX0_told 27 = .ok (.ifCond .eq 12, 3) := dk_153 0 12 (dk_at dksX0_told_1 3 rfl rfl)
theorem dX0_told_30 : decode cX0_told 30 = .ok (.aload_n 0, 1) := dk_42 (dk_at dksX0_told_1 6 rfl rfl)
theorem dX0_told_31 : decode cX0_told 31 = .ok (.iload_n 1, 1) := dk_27 (dk_at dksX0_told_1 7 rfl rfl)
theorem dX0_told_32 : decode cX0_told 32 = .ok (.iload_n 2, 1) := dk_28 (dk_at dksX0_told_1 8 rfl rfl)
theorem dX0_told_33 : decode cX0_told 33 = .ok (.invokevirtual 120, 3) := dk_182 0 120 (dk_at dksX0_told_1 9 rfl rfl)
theorem dX0_told_36 : decode cX0_told 36 = .ok (.goto 5, 3) := dk_167 0 5 (dk_at dksX0_told_1 12 rfl rfl)
theorem dX0_told_39 : decode cX0_told 39 = .ok (.bipush (-2), 2) := dk_16 254 (dk_at dksX0_told_1 15 rfl rfl)
theorem dX0_told_41 : decode cX0_told 41 = .ok (.ireturn, 1) := dk_172 (dk_at dksX0_told_1 17 rfl rfl)
theorem dX0_told_42 : decode cX0_told 42 = .ok (.iload_n 2, 1) := dk_28 (dk_at dksX0_told_1 18 rfl rfl)
theorem dX0_told_43 : decode cX0_told 43 = .ok (.i2l, 1) := dk_133 (dk_at dksX0_told_1 19 rfl rfl)
theorem dX0_told_44 : decode cX0_told 44 = .ok (.lconst 1, 1) := dk_10 (dk_at dksX0_told_1 20 rfl rfl)
theorem dX0_told_45 : decode cX0_told 45 = .ok (.ldc2_w 123, 3) := dk_20 0 123 (dk_at dksX0_told_1 21 rfl rfl)
theorem dX0_told_48 : decode cX0_told 48 = .ok (.invokestatic 14, 3) := dk_184 0 14 (dk_at dksX0_told_2 0 rfl rfl)
theorem dX0_told_51 : decode cX0_told 51 = .ok (.ifCond .eq 20, 3) := dk_153 0 20 (dk_at dksX0_told_2 3 rfl rfl)
theorem dX0_told_54 : decode cX0_told 54 = .ok (.aload_n 0, 1) := dk_42 (dk_at dksX0_told_2 6 rfl rfl)
theorem dX0_told_55 : decode cX0_told 55 = .ok (.iload_n 1, 1) := dk_27 (dk_at dksX0_told_2 7 rfl rfl)
theorem dX0_told_56 : decode cX0_told 56 = .ok (.invokevirtual 79, 3) := dk_182 0 79 (dk_at dksX0_told_2 8 rfl rfl)
theorem dX0_told_59 : decode cX0_told 59 = .ok (.ifCond .eq 12, 3) := dk_153 0 12 (dk_at dksX0_told_2 11 rfl rfl)
theorem dX0_told_62 : decode cX0_told 62 = .ok (.aload_n 0, 1) := dk_42 (dk_at dksX0_told_2 14 rfl rfl)
theorem dX0_told_63 : decode cX0_told 63 = .ok (.iload_n 1, 1) := dk_27 (dk_at dksX0_told_2 15 rfl rfl)
theorem dX0_told_64 : decode cX0_told 64 = .ok (.iload_n 2, 1) := dk_28 (dk_at dksX0_told_2 16 rfl rfl)
theorem dX0_told_65 : decode cX0_told 65 = .ok (.invokevirtual 125, 3) := dk_182 0 125 (dk_at dksX0_told_2 17 rfl rfl)
theorem dX0_told_68 : decode cX0_told 68 = .ok (.goto 5, 3) := dk_167 0 5 (dk_at dksX0_told_2 20 rfl rfl)
theorem dX0_told_71 : decode cX0_told 71 = .ok (.bipush (-2), 2) := dk_16 254 (dk_at dksX0_told_3 0 rfl rfl)
theorem dX0_told_73 : decode cX0_told 73 = .ok (.ireturn, 1) := dk_172 (dk_at dksX0_told_3 2 rfl rfl)
abbrev cX0_toldRow : ByteArray := prog_1_method_14_code
def yX0_toldRow : MethodName := ⟨RX0, "toldRow", "(II)I"⟩
def dkwX0_toldRow_3 : List UInt8 := [182, 0, 109, 172, 42, 27, 182, 0, 112, 172, 42, 27, 182, 0, 115, 172]
abbrev dktX0_toldRow_3 : List UInt8 := dkwX0_toldRow_3 ++ []
def dkwX0_toldRow_2 : List UInt8 := [42, 180, 0, 61, 27, 46, 172, 42, 180, 0, 65, 27, 46, 172, 42, 27, 182, 0, 68, 172, 42, 27]
abbrev dktX0_toldRow_2 : List UInt8 := dkwX0_toldRow_2 ++ dktX0_toldRow_3
def dkwX0_toldRow_1 : List UInt8 := [170, 0, 0, 0, 0, 0, 67, 0, 0, 0, 5, 0, 0, 0, 9, 0, 0, 0, 35, 0, 0, 0, 42, 0, 0, 0, 49, 0, 0, 0, 55, 0, 0, 0, 61]
abbrev dktX0_toldRow_1 : List UInt8 := dkwX0_toldRow_1 ++ dktX0_toldRow_2
def dkwX0_toldRow_0 : List UInt8 := [28]
abbrev dktX0_toldRow_0 : List UInt8 := dkwX0_toldRow_0 ++ dktX0_toldRow_1
theorem dksX0_toldRow_0 : cX0_toldRow.data.toList.drop 0 = dktX0_toldRow_0 := by decide +kernel
theorem dksX0_toldRow_1 : cX0_toldRow.data.toList.drop 1 = dktX0_toldRow_1 := dk_seg dksX0_toldRow_0 1 rfl rfl
theorem dksX0_toldRow_2 : cX0_toldRow.data.toList.drop 36 = dktX0_toldRow_2 := dk_seg dksX0_toldRow_1 35 rfl rfl
theorem dksX0_toldRow_3 : cX0_toldRow.data.toList.drop 58 = dktX0_toldRow_3 := dk_seg dksX0_toldRow_2 22 rfl rfl
theorem dX0_toldRow_0 : decode cX0_toldRow 0 = .ok (.iload_n 2, 1) := dk_28 (dk_at dksX0_toldRow_0 0 rfl rfl)
theorem dX0_toldRow_1 : decode cX0_toldRow 1 = .ok (.tableswitch 67 5 9 #[35, 42, 49, 55, 61], 35) := by decide +kernel
theorem dX0_toldRow_36 : decode cX0_toldRow 36 = .ok (.aload_n 0, 1) := dk_42 (dk_at dksX0_toldRow_2 0 rfl rfl)
theorem dX0_toldRow_37 : decode cX0_toldRow 37 = .ok (.getfield 61, 3) := dk_180 0 61 (dk_at dksX0_toldRow_2 1 rfl rfl)
theorem dX0_toldRow_40 : decode cX0_toldRow 40 = .ok (.iload_n 1, 1) := dk_27 (dk_at dksX0_toldRow_2 4 rfl rfl)
theorem dX0_toldRow_41 : decode cX0_toldRow 41 = .ok (.iaload, 1) := dk_46 (dk_at dksX0_toldRow_2 5 rfl rfl)
theorem dX0_toldRow_42 : decode cX0_toldRow 42 = .ok (.ireturn, 1) := dk_172 (dk_at dksX0_toldRow_2 6 rfl rfl)
theorem dX0_toldRow_43 : decode cX0_toldRow 43 = .ok (.aload_n 0, 1) := dk_42 (dk_at dksX0_toldRow_2 7 rfl rfl)
theorem dX0_toldRow_44 : decode cX0_toldRow 44 = .ok (.getfield 65, 3) := dk_180 0 65 (dk_at dksX0_toldRow_2 8 rfl rfl)
theorem dX0_toldRow_47 : decode cX0_toldRow 47 = .ok (.iload_n 1, 1) := dk_27 (dk_at dksX0_toldRow_2 11 rfl rfl)
theorem dX0_toldRow_48 : decode cX0_toldRow 48 = .ok (.iaload, 1) := dk_46 (dk_at dksX0_toldRow_2 12 rfl rfl)
theorem dX0_toldRow_49 : decode cX0_toldRow 49 = .ok (.ireturn, 1) := dk_172 (dk_at dksX0_toldRow_2 13 rfl rfl)
theorem dX0_toldRow_50 : decode cX0_toldRow 50 = .ok (.aload_n 0, 1) := dk_42 (dk_at dksX0_toldRow_2 14 rfl rfl)
theorem dX0_toldRow_51 : decode cX0_toldRow 51 = .ok (.iload_n 1, 1) := dk_27 (dk_at dksX0_toldRow_2 15 rfl rfl)
theorem dX0_toldRow_52 : decode cX0_toldRow 52 = .ok (.invokevirtual 68, 3) := dk_182 0 68 (dk_at dksX0_toldRow_2 16 rfl rfl)
theorem dX0_toldRow_55 : decode cX0_toldRow 55 = .ok (.ireturn, 1) := dk_172 (dk_at dksX0_toldRow_2 19 rfl rfl)
theorem dX0_toldRow_56 : decode cX0_toldRow 56 = .ok (.aload_n 0, 1) := dk_42 (dk_at dksX0_toldRow_2 20 rfl rfl)
theorem dX0_toldRow_57 : decode cX0_toldRow 57 = .ok (.iload_n 1, 1) := dk_27 (dk_at dksX0_toldRow_2 21 rfl rfl)
theorem dX0_toldRow_58 : decode cX0_toldRow 58 = .ok (.invokevirtual 109, 3) := dk_182 0 109 (dk_at dksX0_toldRow_3 0 rfl rfl)
theorem dX0_toldRow_61 : decode cX0_toldRow 61 = .ok (.ireturn, 1) := dk_172 (dk_at dksX0_toldRow_3 3 rfl rfl)
theorem dX0_toldRow_62 : decode cX0_toldRow 62 = .ok (.aload_n 0, 1) := dk_42 (dk_at dksX0_toldRow_3 4 rfl rfl)
theorem dX0_toldRow_63 : decode cX0_toldRow 63 = .ok (.iload_n 1, 1) := dk_27 (dk_at dksX0_toldRow_3 5 rfl rfl)
theorem dX0_toldRow_64 : decode cX0_toldRow 64 = .ok (.invokevirtual 112, 3) := dk_182 0 112 (dk_at dksX0_toldRow_3 6 rfl rfl)
theorem dX0_toldRow_67 : decode cX0_toldRow 67 = .ok (.ireturn, 1) := dk_172 (dk_at dksX0_toldRow_3 9 rfl rfl)
theorem dX0_toldRow_68 : decode cX0_toldRow 68 = .ok (.aload_n 0, 1) := dk_42 (dk_at dksX0_toldRow_3 10 rfl rfl)
theorem dX0_toldRow_69 : decode cX0_toldRow 69 = .ok (.iload_n 1, 1) := dk_27 (dk_at dksX0_toldRow_3 11 rfl rfl)
theorem dX0_toldRow_70 : decode cX0_toldRow 70 = .ok (.invokevirtual 115, 3) := dk_182 0 115 (dk_at dksX0_toldRow_3 12 rfl rfl)
theorem dX0_toldRow_73 : decode cX0_toldRow 73 = .ok (.ireturn, 1) := dk_172 (dk_at dksX0_toldRow_3 15 rfl rfl)
abbrev cX0_runsOf : ByteArray := prog_1_method_17_code
def yX0_runsOf : MethodName := ⟨RX0, "runsOf", "(I)I"⟩
def dkwX0_runsOf_0 : List UInt8 := [42, 27, 182, 0, 135, 172]
abbrev dktX0_runsOf_0 : List UInt8 := dkwX0_runsOf_0 ++ []
theorem dksX0_runsOf_0 : cX0_runsOf.data.toList.drop 0 = dktX0_runsOf_0 := by decide +kernel
theorem dX0_runsOf_0 : decode cX0_runsOf 0 = .ok (.aload_n 0, 1) := dk_42 (dk_at dksX0_runsOf_0 0 rfl rfl)
theorem dX0_runsOf_1 : decode cX0_runsOf 1 = .ok (.iload_n 1, 1) := dk_27 (dk_at dksX0_runsOf_0 1 rfl rfl)
theorem dX0_runsOf_2 : decode cX0_runsOf 2 = .ok (.invokevirtual 135, 3) := dk_182 0 135 (dk_at dksX0_runsOf_0 2 rfl rfl)
theorem dX0_runsOf_5 : decode cX0_runsOf 5 = .ok (.ireturn, 1) := dk_172 (dk_at dksX0_runsOf_0 5 rfl rfl)
abbrev cX0_tellsRuns : ByteArray := prog_1_method_16_code
def yX0_tellsRuns : MethodName := ⟨RX0, "tellsRuns", "(I)I"⟩
def dkwX0_tellsRuns_3 : List UInt8 := [153, 0, 9, 29, 4, 96, 167, 0, 4, 3, 62, 132, 4, 1, 167, 255, 178, 28, 172]
abbrev dktX0_tellsRuns_3 : List UInt8 := dkwX0_tellsRuns_3 ++ []
def dkwX0_tellsRuns_2 : List UInt8 := [54, 5, 21, 5, 154, 0, 17, 29, 158, 0, 13, 42, 180, 0, 132, 28, 29, 79, 132, 2, 1, 21, 5]
abbrev dktX0_tellsRuns_2 : List UInt8 := dkwX0_tellsRuns_2 ++ dktX0_tellsRuns_3
def dkwX0_tellsRuns_1 : List UInt8 := [27, 46, 162, 0, 21, 42, 180, 0, 65, 27, 46, 21, 4, 184, 0, 128, 154, 0, 7, 4, 167, 0, 4, 3]
abbrev dktX0_tellsRuns_1 : List UInt8 := dkwX0_tellsRuns_1 ++ dktX0_tellsRuns_2
def dkwX0_tellsRuns_0 : List UInt8 := [3, 61, 3, 62, 3, 54, 4, 21, 4, 42, 180, 0, 61, 27, 46, 163, 0, 73, 21, 4, 42, 180, 0, 61]
abbrev dktX0_tellsRuns_0 : List UInt8 := dkwX0_tellsRuns_0 ++ dktX0_tellsRuns_1
theorem dksX0_tellsRuns_0 : cX0_tellsRuns.data.toList.drop 0 = dktX0_tellsRuns_0 := by decide +kernel
theorem dksX0_tellsRuns_1 : cX0_tellsRuns.data.toList.drop 24 = dktX0_tellsRuns_1 := dk_seg dksX0_tellsRuns_0 24 rfl rfl
theorem dksX0_tellsRuns_2 : cX0_tellsRuns.data.toList.drop 48 = dktX0_tellsRuns_2 := dk_seg dksX0_tellsRuns_1 24 rfl rfl
theorem dksX0_tellsRuns_3 : cX0_tellsRuns.data.toList.drop 71 = dktX0_tellsRuns_3 := dk_seg dksX0_tellsRuns_2 23 rfl rfl
theorem dX0_tellsRuns_0 : decode cX0_tellsRuns 0 = .ok (.iconst 0, 1) := dk_3 (dk_at dksX0_tellsRuns_0 0 rfl rfl)
theorem dX0_tellsRuns_1 : decode cX0_tellsRuns 1 = .ok (.istore_n 2, 1) := dk_61 (dk_at dksX0_tellsRuns_0 1 rfl rfl)
theorem dX0_tellsRuns_2 : decode cX0_tellsRuns 2 = .ok (.iconst 0, 1) := dk_3 (dk_at dksX0_tellsRuns_0 2 rfl rfl)
theorem dX0_tellsRuns_3 : decode cX0_tellsRuns 3 = .ok (.istore_n 3, 1) := dk_62 (dk_at dksX0_tellsRuns_0 3 rfl rfl)
theorem dX0_tellsRuns_4 : decode cX0_tellsRuns 4 = .ok (.iconst 0, 1) := dk_3 (dk_at dksX0_tellsRuns_0 4 rfl rfl)
theorem dX0_tellsRuns_5 : decode cX0_tellsRuns 5 = .ok (.istore 4, 2) := dk_54 4 (dk_at dksX0_tellsRuns_0 5 rfl rfl)
theorem dX0_tellsRuns_7 : decode cX0_tellsRuns 7 = .ok (.iload 4, 2) := dk_21 4 (dk_at dksX0_tellsRuns_0 7 rfl rfl)
theorem dX0_tellsRuns_9 : decode cX0_tellsRuns 9 = .ok (.aload_n 0, 1) := dk_42 (dk_at dksX0_tellsRuns_0 9 rfl rfl)
theorem dX0_tellsRuns_10 : decode cX0_tellsRuns 10 = .ok (.getfield 61, 3) := dk_180 0 61 (dk_at dksX0_tellsRuns_0 10 rfl rfl)
theorem dX0_tellsRuns_13 : decode cX0_tellsRuns 13 = .ok (.iload_n 1, 1) := dk_27 (dk_at dksX0_tellsRuns_0 13 rfl rfl)
theorem dX0_tellsRuns_14 : decode cX0_tellsRuns 14 = .ok (.iaload, 1) := dk_46 (dk_at dksX0_tellsRuns_0 14 rfl rfl)
theorem dX0_tellsRuns_15 : decode cX0_tellsRuns 15 = .ok (.if_icmp .gt 73, 3) := dk_163 0 73 (dk_at dksX0_tellsRuns_0 15 rfl rfl)
theorem dX0_tellsRuns_18 : decode cX0_tellsRuns 18 = .ok (.iload 4, 2) := dk_21 4 (dk_at dksX0_tellsRuns_0 18 rfl rfl)
theorem dX0_tellsRuns_20 : decode cX0_tellsRuns 20 = .ok (.aload_n 0, 1) := dk_42 (dk_at dksX0_tellsRuns_0 20 rfl rfl)
theorem dX0_tellsRuns_21 : decode cX0_tellsRuns 21 = .ok (.getfield 61, 3) := dk_180 0 61 (dk_at dksX0_tellsRuns_0 21 rfl rfl)
theorem dX0_tellsRuns_24 : decode cX0_tellsRuns 24 = .ok (.iload_n 1, 1) := dk_27 (dk_at dksX0_tellsRuns_1 0 rfl rfl)
theorem dX0_tellsRuns_25 : decode cX0_tellsRuns 25 = .ok (.iaload, 1) := dk_46 (dk_at dksX0_tellsRuns_1 1 rfl rfl)
theorem dX0_tellsRuns_26 : decode cX0_tellsRuns 26 = .ok (.if_icmp .ge 21, 3) := dk_162 0 21 (dk_at dksX0_tellsRuns_1 2 rfl rfl)
theorem dX0_tellsRuns_29 : decode cX0_tellsRuns 29 = .ok (.aload_n 0, 1) := dk_42 (dk_at dksX0_tellsRuns_1 5 rfl rfl)
theorem dX0_tellsRuns_30 : decode cX0_tellsRuns 30 = .ok (.getfield 65, 3) := dk_180 0 65 (dk_at dksX0_tellsRuns_1 6 rfl rfl)
theorem dX0_tellsRuns_33 : decode cX0_tellsRuns 33 = .ok (.iload_n 1, 1) := dk_27 (dk_at dksX0_tellsRuns_1 9 rfl rfl)
theorem dX0_tellsRuns_34 : decode cX0_tellsRuns 34 = .ok (.iaload, 1) := dk_46 (dk_at dksX0_tellsRuns_1 10 rfl rfl)
theorem dX0_tellsRuns_35 : decode cX0_tellsRuns 35 = .ok (.iload 4, 2) := dk_21 4 (dk_at dksX0_tellsRuns_1 11 rfl rfl)
theorem dX0_tellsRuns_37 : decode cX0_tellsRuns 37 = .ok (.invokestatic 128, 3) := dk_184 0 128 (dk_at dksX0_tellsRuns_1 13 rfl rfl)
theorem dX0_tellsRuns_40 : decode cX0_tellsRuns 40 = .ok (.ifCond .ne 7, 3) := dk_154 0 7 (dk_at dksX0_tellsRuns_1 16 rfl rfl)
theorem dX0_tellsRuns_43 : decode cX0_tellsRuns 43 = .ok (.iconst 1, 1) := dk_4 (dk_at dksX0_tellsRuns_1 19 rfl rfl)
theorem dX0_tellsRuns_44 : decode cX0_tellsRuns 44 = .ok (.goto 4, 3) := dk_167 0 4 (dk_at dksX0_tellsRuns_1 20 rfl rfl)
theorem dX0_tellsRuns_47 : decode cX0_tellsRuns 47 = .ok (.iconst 0, 1) := dk_3 (dk_at dksX0_tellsRuns_1 23 rfl rfl)
theorem dX0_tellsRuns_48 : decode cX0_tellsRuns 48 = .ok (.istore 5, 2) := dk_54 5 (dk_at dksX0_tellsRuns_2 0 rfl rfl)
theorem dX0_tellsRuns_50 : decode cX0_tellsRuns 50 = .ok (.iload 5, 2) := dk_21 5 (dk_at dksX0_tellsRuns_2 2 rfl rfl)
theorem dX0_tellsRuns_52 : decode cX0_tellsRuns 52 = .ok (.ifCond .ne 17, 3) := dk_154 0 17 (dk_at dksX0_tellsRuns_2 4 rfl rfl)
theorem dX0_tellsRuns_55 : decode cX0_tellsRuns 55 = .ok (.iload_n 3, 1) := dk_29 (dk_at dksX0_tellsRuns_2 7 rfl rfl)
theorem dX0_tellsRuns_56 : decode cX0_tellsRuns 56 = .ok (.ifCond .le 13, 3) := dk_158 0 13 (dk_at dksX0_tellsRuns_2 8 rfl rfl)
theorem dX0_tellsRuns_59 : decode cX0_tellsRuns 59 = .ok (.aload_n 0, 1) := dk_42 (dk_at dksX0_tellsRuns_2 11 rfl rfl)
theorem dX0_tellsRuns_60 : decode cX0_tellsRuns 60 = .ok (.getfield 132, 3) := dk_180 0 132 (dk_at dksX0_tellsRuns_2 12 rfl rfl)
theorem dX0_tellsRuns_63 : decode cX0_tellsRuns 63 = .ok (.iload_n 2, 1) := dk_28 (dk_at dksX0_tellsRuns_2 15 rfl rfl)
theorem dX0_tellsRuns_64 : decode cX0_tellsRuns 64 = .ok (.iload_n 3, 1) := dk_29 (dk_at dksX0_tellsRuns_2 16 rfl rfl)
theorem dX0_tellsRuns_65 : decode cX0_tellsRuns 65 = .ok (.iastore, 1) := dk_79 (dk_at dksX0_tellsRuns_2 17 rfl rfl)
theorem dX0_tellsRuns_66 : decode cX0_tellsRuns 66 = .ok (.iinc 2 1, 3) := dk_132 2 1 (dk_at dksX0_tellsRuns_2 18 rfl rfl)
theorem dX0_tellsRuns_69 : decode cX0_tellsRuns 69 = .ok (.iload 5, 2) := dk_21 5 (dk_at dksX0_tellsRuns_2 21 rfl rfl)
theorem dX0_tellsRuns_71 : decode cX0_tellsRuns 71 = .ok (.ifCond .eq 9, 3) := dk_153 0 9 (dk_at dksX0_tellsRuns_3 0 rfl rfl)
theorem dX0_tellsRuns_74 : decode cX0_tellsRuns 74 = .ok (.iload_n 3, 1) := dk_29 (dk_at dksX0_tellsRuns_3 3 rfl rfl)
theorem dX0_tellsRuns_75 : decode cX0_tellsRuns 75 = .ok (.iconst 1, 1) := dk_4 (dk_at dksX0_tellsRuns_3 4 rfl rfl)
theorem dX0_tellsRuns_76 : decode cX0_tellsRuns 76 = .ok (.iadd, 1) := dk_96 (dk_at dksX0_tellsRuns_3 5 rfl rfl)
theorem dX0_tellsRuns_77 : decode cX0_tellsRuns 77 = .ok (.goto 4, 3) := dk_167 0 4 (dk_at dksX0_tellsRuns_3 6 rfl rfl)
theorem dX0_tellsRuns_80 : decode cX0_tellsRuns 80 = .ok (.iconst 0, 1) := dk_3 (dk_at dksX0_tellsRuns_3 9 rfl rfl)
theorem dX0_tellsRuns_81 : decode cX0_tellsRuns 81 = .ok (.istore_n 3, 1) := dk_62 (dk_at dksX0_tellsRuns_3 10 rfl rfl)
theorem dX0_tellsRuns_82 : decode cX0_tellsRuns 82 = .ok (.iinc 4 1, 3) := dk_132 4 1 (dk_at dksX0_tellsRuns_3 11 rfl rfl)
theorem dX0_tellsRuns_85 : decode cX0_tellsRuns 85 = .ok (.goto (-78), 3) := dk_167 255 178 (dk_at dksX0_tellsRuns_3 14 rfl rfl)
theorem dX0_tellsRuns_88 : decode cX0_tellsRuns 88 = .ok (.iload_n 2, 1) := dk_28 (dk_at dksX0_tellsRuns_3 17 rfl rfl)
theorem dX0_tellsRuns_89 : decode cX0_tellsRuns 89 = .ok (.ireturn, 1) := dk_172 (dk_at dksX0_tellsRuns_3 18 rfl rfl)
abbrev cX0_isIn : ByteArray := prog_1_method_3_code
def yX0_isIn : MethodName := ⟨RX0, "isIn", "(II)Z"⟩
def dkwX0_isIn_0 : List UInt8 := [26, 27, 122, 4, 126, 4, 160, 0, 7, 4, 167, 0, 4, 3, 172]
abbrev dktX0_isIn_0 : List UInt8 := dkwX0_isIn_0 ++ []
theorem dksX0_isIn_0 : cX0_isIn.data.toList.drop 0 = dktX0_isIn_0 := by decide +kernel
theorem dX0_isIn_0 : decode cX0_isIn 0 = .ok (.iload_n 0, 1) := dk_26 (dk_at dksX0_isIn_0 0 rfl rfl)
theorem dX0_isIn_1 : decode cX0_isIn 1 = .ok (.iload_n 1, 1) := dk_27 (dk_at dksX0_isIn_0 1 rfl rfl)
theorem dX0_isIn_2 : decode cX0_isIn 2 = .ok (.ishr, 1) := dk_122 (dk_at dksX0_isIn_0 2 rfl rfl)
theorem dX0_isIn_3 : decode cX0_isIn 3 = .ok (.iconst 1, 1) := dk_4 (dk_at dksX0_isIn_0 3 rfl rfl)
theorem dX0_isIn_4 : decode cX0_isIn 4 = .ok (.iand, 1) := dk_126 (dk_at dksX0_isIn_0 4 rfl rfl)
theorem dX0_isIn_5 : decode cX0_isIn 5 = .ok (.iconst 1, 1) := dk_4 (dk_at dksX0_isIn_0 5 rfl rfl)
theorem dX0_isIn_6 : decode cX0_isIn 6 = .ok (.if_icmp .ne 7, 3) := dk_160 0 7 (dk_at dksX0_isIn_0 6 rfl rfl)
theorem dX0_isIn_9 : decode cX0_isIn 9 = .ok (.iconst 1, 1) := dk_4 (dk_at dksX0_isIn_0 9 rfl rfl)
theorem dX0_isIn_10 : decode cX0_isIn 10 = .ok (.goto 4, 3) := dk_167 0 4 (dk_at dksX0_isIn_0 10 rfl rfl)
theorem dX0_isIn_13 : decode cX0_isIn 13 = .ok (.iconst 0, 1) := dk_3 (dk_at dksX0_isIn_0 13 rfl rfl)
theorem dX0_isIn_14 : decode cX0_isIn 14 = .ok (.ireturn, 1) := dk_172 (dk_at dksX0_isIn_0 14 rfl rfl)
abbrev cX0_greatest : ByteArray := prog_1_method_18_code
def yX0_greatest : MethodName := ⟨RX0, "greatest", "(I)I"⟩
def dkwX0_greatest_1 : List UInt8 := [46, 184, 0, 7, 62, 132, 4, 1, 167, 255, 235, 29, 172]
abbrev dktX0_greatest_1 : List UInt8 := dkwX0_greatest_1 ++ []
def dkwX0_greatest_0 : List UInt8 := [42, 27, 182, 0, 135, 61, 3, 62, 3, 54, 4, 21, 4, 28, 162, 0, 21, 29, 42, 180, 0, 132, 21, 4]
abbrev dktX0_greatest_0 : List UInt8 := dkwX0_greatest_0 ++ dktX0_greatest_1
theorem dksX0_greatest_0 : cX0_greatest.data.toList.drop 0 = dktX0_greatest_0 := by decide +kernel
theorem dksX0_greatest_1 : cX0_greatest.data.toList.drop 24 = dktX0_greatest_1 := dk_seg dksX0_greatest_0 24 rfl rfl
theorem dX0_greatest_0 : decode cX0_greatest 0 = .ok (.aload_n 0, 1) := dk_42 (dk_at dksX0_greatest_0 0 rfl rfl)
theorem dX0_greatest_1 : decode cX0_greatest 1 = .ok (.iload_n 1, 1) := dk_27 (dk_at dksX0_greatest_0 1 rfl rfl)
theorem dX0_greatest_2 : decode cX0_greatest 2 = .ok (.invokevirtual 135, 3) := dk_182 0 135 (dk_at dksX0_greatest_0 2 rfl rfl)
theorem dX0_greatest_5 : decode cX0_greatest 5 = .ok (.istore_n 2, 1) := dk_61 (dk_at dksX0_greatest_0 5 rfl rfl)
theorem dX0_greatest_6 : decode cX0_greatest 6 = .ok (.iconst 0, 1) := dk_3 (dk_at dksX0_greatest_0 6 rfl rfl)
theorem dX0_greatest_7 : decode cX0_greatest 7 = .ok (.istore_n 3, 1) := dk_62 (dk_at dksX0_greatest_0 7 rfl rfl)
theorem dX0_greatest_8 : decode cX0_greatest 8 = .ok (.iconst 0, 1) := dk_3 (dk_at dksX0_greatest_0 8 rfl rfl)
theorem dX0_greatest_9 : decode cX0_greatest 9 = .ok (.istore 4, 2) := dk_54 4 (dk_at dksX0_greatest_0 9 rfl rfl)
theorem dX0_greatest_11 : decode cX0_greatest 11 = .ok (.iload 4, 2) := dk_21 4 (dk_at dksX0_greatest_0 11 rfl rfl)
theorem dX0_greatest_13 : decode cX0_greatest 13 = .ok (.iload_n 2, 1) := dk_28 (dk_at dksX0_greatest_0 13 rfl rfl)
theorem dX0_greatest_14 : decode cX0_greatest 14 = .ok (.if_icmp .ge 21, 3) := dk_162 0 21 (dk_at dksX0_greatest_0 14 rfl rfl)
theorem dX0_greatest_17 : decode cX0_greatest 17 = .ok (.iload_n 3, 1) := dk_29 (dk_at dksX0_greatest_0 17 rfl rfl)
theorem dX0_greatest_18 : decode cX0_greatest 18 = .ok (.aload_n 0, 1) := dk_42 (dk_at dksX0_greatest_0 18 rfl rfl)
theorem dX0_greatest_19 : decode cX0_greatest 19 = .ok (.getfield 132, 3) := dk_180 0 132 (dk_at dksX0_greatest_0 19 rfl rfl)
theorem dX0_greatest_22 : decode cX0_greatest 22 = .ok (.iload 4, 2) := dk_21 4 (dk_at dksX0_greatest_0 22 rfl rfl)
theorem dX0_greatest_24 : decode cX0_greatest 24 = .ok (.iaload, 1) := dk_46 (dk_at dksX0_greatest_1 0 rfl rfl)
theorem dX0_greatest_25 : decode cX0_greatest 25 = .ok (.invokestatic 7, 3) := dk_184 0 7 (dk_at dksX0_greatest_1 1 rfl rfl)
theorem dX0_greatest_28 : decode cX0_greatest 28 = .ok (.istore_n 3, 1) := dk_62 (dk_at dksX0_greatest_1 4 rfl rfl)
theorem dX0_greatest_29 : decode cX0_greatest 29 = .ok (.iinc 4 1, 3) := dk_132 4 1 (dk_at dksX0_greatest_1 5 rfl rfl)
theorem dX0_greatest_32 : decode cX0_greatest 32 = .ok (.goto (-21), 3) := dk_167 255 235 (dk_at dksX0_greatest_1 8 rfl rfl)
theorem dX0_greatest_35 : decode cX0_greatest 35 = .ok (.iload_n 3, 1) := dk_29 (dk_at dksX0_greatest_1 11 rfl rfl)
theorem dX0_greatest_36 : decode cX0_greatest 36 = .ok (.ireturn, 1) := dk_172 (dk_at dksX0_greatest_1 12 rfl rfl)
abbrev cX0_shakesOf : ByteArray := prog_1_method_48_code
def yX0_shakesOf : MethodName := ⟨RX0, "shakesOf", "(I)I"⟩
def dkwX0_shakesOf_0 : List UInt8 := [42, 2, 182, 1, 120, 42, 5, 42, 27, 182, 0, 68, 3, 27, 182, 1, 123, 3, 16, 9, 184, 1, 127, 172]
abbrev dktX0_shakesOf_0 : List UInt8 := dkwX0_shakesOf_0 ++ []
theorem dksX0_shakesOf_0 : cX0_shakesOf.data.toList.drop 0 = dktX0_shakesOf_0 := by decide +kernel
theorem dX0_shakesOf_0 : decode cX0_shakesOf 0 = .ok (.aload_n 0, 1) := dk_42 (dk_at dksX0_shakesOf_0 0 rfl rfl)
theorem dX0_shakesOf_1 : decode cX0_shakesOf 1 = .ok (.iconst (-1), 1) := dk_2 (dk_at dksX0_shakesOf_0 1 rfl rfl)
theorem dX0_shakesOf_2 : decode cX0_shakesOf 2 = .ok (.invokevirtual 376, 3) := dk_182 1 120 (dk_at dksX0_shakesOf_0 2 rfl rfl)
theorem dX0_shakesOf_5 : decode cX0_shakesOf 5 = .ok (.aload_n 0, 1) := dk_42 (dk_at dksX0_shakesOf_0 5 rfl rfl)
theorem dX0_shakesOf_6 : decode cX0_shakesOf 6 = .ok (.iconst 2, 1) := dk_5 (dk_at dksX0_shakesOf_0 6 rfl rfl)
theorem dX0_shakesOf_7 : decode cX0_shakesOf 7 = .ok (.aload_n 0, 1) := dk_42 (dk_at dksX0_shakesOf_0 7 rfl rfl)
theorem dX0_shakesOf_8 : decode cX0_shakesOf 8 = .ok (.iload_n 1, 1) := dk_27 (dk_at dksX0_shakesOf_0 8 rfl rfl)
theorem dX0_shakesOf_9 : decode cX0_shakesOf 9 = .ok (.invokevirtual 68, 3) := dk_182 0 68 (dk_at dksX0_shakesOf_0 9 rfl rfl)
theorem dX0_shakesOf_12 : decode cX0_shakesOf 12 = .ok (.iconst 0, 1) := dk_3 (dk_at dksX0_shakesOf_0 12 rfl rfl)
theorem dX0_shakesOf_13 : decode cX0_shakesOf 13 = .ok (.iload_n 1, 1) := dk_27 (dk_at dksX0_shakesOf_0 13 rfl rfl)
theorem dX0_shakesOf_14 : decode cX0_shakesOf 14 = .ok (.invokevirtual 379, 3) := dk_182 1 123 (dk_at dksX0_shakesOf_0 14 rfl rfl)
theorem dX0_shakesOf_17 : decode cX0_shakesOf 17 = .ok (.iconst 0, 1) := dk_3 (dk_at dksX0_shakesOf_0 17 rfl rfl)
theorem dX0_shakesOf_18 : decode cX0_shakesOf 18 = .ok (.bipush 9, 2) := dk_16 9 (dk_at dksX0_shakesOf_0 18 rfl rfl)
theorem dX0_shakesOf_20 : decode cX0_shakesOf 20 = .ok (.invokestatic 383, 3) := dk_184 1 127 (dk_at dksX0_shakesOf_0 20 rfl rfl)
theorem dX0_shakesOf_23 : decode cX0_shakesOf 23 = .ok (.ireturn, 1) := dk_172 (dk_at dksX0_shakesOf_0 23 rfl rfl)
abbrev cX0_looksAt : ByteArray := prog_1_method_45_code
def yX0_looksAt : MethodName := ⟨RX0, "looksAt", "(I)V"⟩
def dkwX0_looksAt_1 : List UInt8 := [2, 160, 0, 7, 3, 167, 0, 12, 42, 180, 0, 47, 27, 50, 180, 0, 88, 181, 1, 117, 177]
abbrev dktX0_looksAt_1 : List UInt8 := dkwX0_looksAt_1 ++ []
def dkwX0_looksAt_0 : List UInt8 := [42, 27, 2, 160, 0, 7, 3, 167, 0, 12, 42, 180, 0, 47, 27, 50, 180, 0, 85, 181, 1, 114, 42, 27]
abbrev dktX0_looksAt_0 : List UInt8 := dkwX0_looksAt_0 ++ dktX0_looksAt_1
theorem dksX0_looksAt_0 : cX0_looksAt.data.toList.drop 0 = dktX0_looksAt_0 := by decide +kernel
theorem dksX0_looksAt_1 : cX0_looksAt.data.toList.drop 24 = dktX0_looksAt_1 := dk_seg dksX0_looksAt_0 24 rfl rfl
theorem dX0_looksAt_0 : decode cX0_looksAt 0 = .ok (.aload_n 0, 1) := dk_42 (dk_at dksX0_looksAt_0 0 rfl rfl)
theorem dX0_looksAt_1 : decode cX0_looksAt 1 = .ok (.iload_n 1, 1) := dk_27 (dk_at dksX0_looksAt_0 1 rfl rfl)
theorem dX0_looksAt_2 : decode cX0_looksAt 2 = .ok (.iconst (-1), 1) := dk_2 (dk_at dksX0_looksAt_0 2 rfl rfl)
theorem dX0_looksAt_3 : decode cX0_looksAt 3 = .ok (.if_icmp .ne 7, 3) := dk_160 0 7 (dk_at dksX0_looksAt_0 3 rfl rfl)
theorem dX0_looksAt_6 : decode cX0_looksAt 6 = .ok (.iconst 0, 1) := dk_3 (dk_at dksX0_looksAt_0 6 rfl rfl)
theorem dX0_looksAt_7 : decode cX0_looksAt 7 = .ok (.goto 12, 3) := dk_167 0 12 (dk_at dksX0_looksAt_0 7 rfl rfl)
theorem dX0_looksAt_10 : decode cX0_looksAt 10 = .ok (.aload_n 0, 1) := dk_42 (dk_at dksX0_looksAt_0 10 rfl rfl)
theorem dX0_looksAt_11 : decode cX0_looksAt 11 = .ok (.getfield 47, 3) := dk_180 0 47 (dk_at dksX0_looksAt_0 11 rfl rfl)
theorem dX0_looksAt_14 : decode cX0_looksAt 14 = .ok (.iload_n 1, 1) := dk_27 (dk_at dksX0_looksAt_0 14 rfl rfl)
theorem dX0_looksAt_15 : decode cX0_looksAt 15 = .ok (.aaload, 1) := dk_50 (dk_at dksX0_looksAt_0 15 rfl rfl)
theorem dX0_looksAt_16 : decode cX0_looksAt 16 = .ok (.getfield 85, 3) := dk_180 0 85 (dk_at dksX0_looksAt_0 16 rfl rfl)
theorem dX0_looksAt_19 : decode cX0_looksAt 19 = .ok (.putfield 370, 3) := dk_181 1 114 (dk_at dksX0_looksAt_0 19 rfl rfl)
theorem dX0_looksAt_22 : decode cX0_looksAt 22 = .ok (.aload_n 0, 1) := dk_42 (dk_at dksX0_looksAt_0 22 rfl rfl)
theorem dX0_looksAt_23 : decode cX0_looksAt 23 = .ok (.iload_n 1, 1) := dk_27 (dk_at dksX0_looksAt_0 23 rfl rfl)
theorem dX0_looksAt_24 : decode cX0_looksAt 24 = .ok (.iconst (-1), 1) := dk_2 (dk_at dksX0_looksAt_1 0 rfl rfl)
theorem dX0_looksAt_25 : decode cX0_looksAt 25 = .ok (.if_icmp .ne 7, 3) := dk_160 0 7 (dk_at dksX0_looksAt_1 1 rfl rfl)
theorem dX0_looksAt_28 : decode cX0_looksAt 28 = .ok (.iconst 0, 1) := dk_3 (dk_at dksX0_looksAt_1 4 rfl rfl)
theorem dX0_looksAt_29 : decode cX0_looksAt 29 = .ok (.goto 12, 3) := dk_167 0 12 (dk_at dksX0_looksAt_1 5 rfl rfl)
theorem dX0_looksAt_32 : decode cX0_looksAt 32 = .ok (.aload_n 0, 1) := dk_42 (dk_at dksX0_looksAt_1 8 rfl rfl)
theorem dX0_looksAt_33 : decode cX0_looksAt 33 = .ok (.getfield 47, 3) := dk_180 0 47 (dk_at dksX0_looksAt_1 9 rfl rfl)
theorem dX0_looksAt_36 : decode cX0_looksAt 36 = .ok (.iload_n 1, 1) := dk_27 (dk_at dksX0_looksAt_1 12 rfl rfl)
theorem dX0_looksAt_37 : decode cX0_looksAt 37 = .ok (.aaload, 1) := dk_50 (dk_at dksX0_looksAt_1 13 rfl rfl)
theorem dX0_looksAt_38 : decode cX0_looksAt 38 = .ok (.getfield 88, 3) := dk_180 0 88 (dk_at dksX0_looksAt_1 14 rfl rfl)
theorem dX0_looksAt_41 : decode cX0_looksAt 41 = .ok (.putfield 373, 3) := dk_181 1 117 (dk_at dksX0_looksAt_1 17 rfl rfl)
theorem dX0_looksAt_44 : decode cX0_looksAt 44 = .ok (.return_, 1) := dk_177 (dk_at dksX0_looksAt_1 20 rfl rfl)
abbrev cX0_says : ByteArray := prog_1_method_44_code
def yX0_says : MethodName := ⟨RX0, "says", "(IIII)I"⟩
def dkwX0_says_1 : List UInt8 := [50, 27, 50, 182, 1, 111, 172]
abbrev dktX0_says_1 : List UInt8 := dkwX0_says_1 ++ []
def dkwX0_says_0 : List UInt8 := [42, 28, 181, 1, 102, 42, 29, 181, 1, 105, 42, 21, 4, 181, 1, 108, 42, 180, 1, 16, 42, 180, 1, 99]
abbrev dktX0_says_0 : List UInt8 := dkwX0_says_0 ++ dktX0_says_1
theorem dksX0_says_0 : cX0_says.data.toList.drop 0 = dktX0_says_0 := by decide +kernel
theorem dksX0_says_1 : cX0_says.data.toList.drop 24 = dktX0_says_1 := dk_seg dksX0_says_0 24 rfl rfl
theorem dX0_says_0 : decode cX0_says 0 = .ok (.aload_n 0, 1) := dk_42 (dk_at dksX0_says_0 0 rfl rfl)
theorem dX0_says_1 : decode cX0_says 1 = .ok (.iload_n 2, 1) := dk_28 (dk_at dksX0_says_0 1 rfl rfl)
theorem dX0_says_2 : decode cX0_says 2 = .ok (.putfield 358, 3) := dk_181 1 102 (dk_at dksX0_says_0 2 rfl rfl)
theorem dX0_says_5 : decode cX0_says 5 = .ok (.aload_n 0, 1) := dk_42 (dk_at dksX0_says_0 5 rfl rfl)
theorem dX0_says_6 : decode cX0_says 6 = .ok (.iload_n 3, 1) := dk_29 (dk_at dksX0_says_0 6 rfl rfl)
theorem dX0_says_7 : decode cX0_says 7 = .ok (.putfield 361, 3) := dk_181 1 105 (dk_at dksX0_says_0 7 rfl rfl)
theorem dX0_says_10 : decode cX0_says 10 = .ok (.aload_n 0, 1) := dk_42 (dk_at dksX0_says_0 10 rfl rfl)
theorem dX0_says_11 : decode cX0_says 11 = .ok (.iload 4, 2) := dk_21 4 (dk_at dksX0_says_0 11 rfl rfl)
theorem dX0_says_13 : decode cX0_says 13 = .ok (.putfield 364, 3) := dk_181 1 108 (dk_at dksX0_says_0 13 rfl rfl)
theorem dX0_says_16 : decode cX0_says 16 = .ok (.aload_n 0, 1) := dk_42 (dk_at dksX0_says_0 16 rfl rfl)
theorem dX0_says_17 : decode cX0_says 17 = .ok (.getfield 272, 3) := dk_180 1 16 (dk_at dksX0_says_0 17 rfl rfl)
theorem dX0_says_20 : decode cX0_says 20 = .ok (.aload_n 0, 1) := dk_42 (dk_at dksX0_says_0 20 rfl rfl)
theorem dX0_says_21 : decode cX0_says 21 = .ok (.getfield 355, 3) := dk_180 1 99 (dk_at dksX0_says_0 21 rfl rfl)
theorem dX0_says_24 : decode cX0_says 24 = .ok (.aaload, 1) := dk_50 (dk_at dksX0_says_1 0 rfl rfl)
theorem dX0_says_25 : decode cX0_says 25 = .ok (.iload_n 1, 1) := dk_27 (dk_at dksX0_says_1 1 rfl rfl)
theorem dX0_says_26 : decode cX0_says 26 = .ok (.aaload, 1) := dk_50 (dk_at dksX0_says_1 2 rfl rfl)
theorem dX0_says_27 : decode cX0_says 27 = .ok (.invokevirtual 367, 3) := dk_182 1 111 (dk_at dksX0_says_1 3 rfl rfl)
theorem dX0_says_30 : decode cX0_says 30 = .ok (.ireturn, 1) := dk_172 (dk_at dksX0_says_1 6 rfl rfl)
abbrev cX0_held : ByteArray := prog_1_method_2_code
def yX0_held : MethodName := ⟨RX0, "held", "(III)I"⟩
def dkwX0_held_0 : List UInt8 := [27, 28, 26, 184, 0, 1, 184, 0, 7, 172]
abbrev dktX0_held_0 : List UInt8 := dkwX0_held_0 ++ []
theorem dksX0_held_0 : cX0_held.data.toList.drop 0 = dktX0_held_0 := by decide +kernel
theorem dX0_held_0 : decode cX0_held 0 = .ok (.iload_n 1, 1) := dk_27 (dk_at dksX0_held_0 0 rfl rfl)
theorem dX0_held_1 : decode cX0_held 1 = .ok (.iload_n 2, 1) := dk_28 (dk_at dksX0_held_0 1 rfl rfl)
theorem dX0_held_2 : decode cX0_held 2 = .ok (.iload_n 0, 1) := dk_26 (dk_at dksX0_held_0 2 rfl rfl)
theorem dX0_held_3 : decode cX0_held 3 = .ok (.invokestatic 1, 3) := dk_184 0 1 (dk_at dksX0_held_0 3 rfl rfl)
theorem dX0_held_6 : decode cX0_held 6 = .ok (.invokestatic 7, 3) := dk_184 0 7 (dk_at dksX0_held_0 6 rfl rfl)
theorem dX0_held_9 : decode cX0_held 9 = .ok (.ireturn, 1) := dk_172 (dk_at dksX0_held_0 9 rfl rfl)
abbrev cX0_toldOf : ByteArray := prog_1_method_13_code
def yX0_toldOf : MethodName := ⟨RX0, "toldOf", "(II)I"⟩
def dkwX0_toldOf_3 : List UInt8 := [27, 50, 182, 0, 102, 172, 42, 27, 182, 0, 106, 172]
abbrev dktX0_toldOf_3 : List UInt8 := dkwX0_toldOf_3 ++ []
def dkwX0_toldOf_2 : List UInt8 := [42, 180, 0, 47, 27, 50, 180, 0, 85, 172, 42, 180, 0, 47, 27, 50, 180, 0, 88, 172, 42, 180, 0, 47]
abbrev dktX0_toldOf_2 : List UInt8 := dkwX0_toldOf_2 ++ dktX0_toldOf_3
def dkwX0_toldOf_1 : List UInt8 := [170, 0, 0, 0, 0, 0, 57, 0, 0, 0, 1, 0, 0, 0, 3, 0, 0, 0, 27, 0, 0, 0, 37, 0, 0, 0, 47]
abbrev dktX0_toldOf_1 : List UInt8 := dkwX0_toldOf_1 ++ dktX0_toldOf_2
def dkwX0_toldOf_0 : List UInt8 := [28]
abbrev dktX0_toldOf_0 : List UInt8 := dkwX0_toldOf_0 ++ dktX0_toldOf_1
theorem dksX0_toldOf_0 : cX0_toldOf.data.toList.drop 0 = dktX0_toldOf_0 := by decide +kernel
theorem dksX0_toldOf_1 : cX0_toldOf.data.toList.drop 1 = dktX0_toldOf_1 := dk_seg dksX0_toldOf_0 1 rfl rfl
theorem dksX0_toldOf_2 : cX0_toldOf.data.toList.drop 28 = dktX0_toldOf_2 := dk_seg dksX0_toldOf_1 27 rfl rfl
theorem dksX0_toldOf_3 : cX0_toldOf.data.toList.drop 52 = dktX0_toldOf_3 := dk_seg dksX0_toldOf_2 24 rfl rfl
theorem dX0_toldOf_0 : decode cX0_toldOf 0 = .ok (.iload_n 2, 1) := dk_28 (dk_at dksX0_toldOf_0 0 rfl rfl)
theorem dX0_toldOf_1 : decode cX0_toldOf 1 = .ok (.tableswitch 57 1 3 #[27, 37, 47], 27) := by decide +kernel
theorem dX0_toldOf_28 : decode cX0_toldOf 28 = .ok (.aload_n 0, 1) := dk_42 (dk_at dksX0_toldOf_2 0 rfl rfl)
theorem dX0_toldOf_29 : decode cX0_toldOf 29 = .ok (.getfield 47, 3) := dk_180 0 47 (dk_at dksX0_toldOf_2 1 rfl rfl)
theorem dX0_toldOf_32 : decode cX0_toldOf 32 = .ok (.iload_n 1, 1) := dk_27 (dk_at dksX0_toldOf_2 4 rfl rfl)
theorem dX0_toldOf_33 : decode cX0_toldOf 33 = .ok (.aaload, 1) := dk_50 (dk_at dksX0_toldOf_2 5 rfl rfl)
theorem dX0_toldOf_34 : decode cX0_toldOf 34 = .ok (.getfield 85, 3) := dk_180 0 85 (dk_at dksX0_toldOf_2 6 rfl rfl)
theorem dX0_toldOf_37 : decode cX0_toldOf 37 = .ok (.ireturn, 1) := dk_172 (dk_at dksX0_toldOf_2 9 rfl rfl)
theorem dX0_toldOf_38 : decode cX0_toldOf 38 = .ok (.aload_n 0, 1) := dk_42 (dk_at dksX0_toldOf_2 10 rfl rfl)
theorem dX0_toldOf_39 : decode cX0_toldOf 39 = .ok (.getfield 47, 3) := dk_180 0 47 (dk_at dksX0_toldOf_2 11 rfl rfl)
theorem dX0_toldOf_42 : decode cX0_toldOf 42 = .ok (.iload_n 1, 1) := dk_27 (dk_at dksX0_toldOf_2 14 rfl rfl)
theorem dX0_toldOf_43 : decode cX0_toldOf 43 = .ok (.aaload, 1) := dk_50 (dk_at dksX0_toldOf_2 15 rfl rfl)
theorem dX0_toldOf_44 : decode cX0_toldOf 44 = .ok (.getfield 88, 3) := dk_180 0 88 (dk_at dksX0_toldOf_2 16 rfl rfl)
theorem dX0_toldOf_47 : decode cX0_toldOf 47 = .ok (.ireturn, 1) := dk_172 (dk_at dksX0_toldOf_2 19 rfl rfl)
theorem dX0_toldOf_48 : decode cX0_toldOf 48 = .ok (.aload_n 0, 1) := dk_42 (dk_at dksX0_toldOf_2 20 rfl rfl)
theorem dX0_toldOf_49 : decode cX0_toldOf 49 = .ok (.getfield 47, 3) := dk_180 0 47 (dk_at dksX0_toldOf_2 21 rfl rfl)
theorem dX0_toldOf_52 : decode cX0_toldOf 52 = .ok (.iload_n 1, 1) := dk_27 (dk_at dksX0_toldOf_3 0 rfl rfl)
theorem dX0_toldOf_53 : decode cX0_toldOf 53 = .ok (.aaload, 1) := dk_50 (dk_at dksX0_toldOf_3 1 rfl rfl)
theorem dX0_toldOf_54 : decode cX0_toldOf 54 = .ok (.invokevirtual 102, 3) := dk_182 0 102 (dk_at dksX0_toldOf_3 2 rfl rfl)
theorem dX0_toldOf_57 : decode cX0_toldOf 57 = .ok (.ireturn, 1) := dk_172 (dk_at dksX0_toldOf_3 5 rfl rfl)
theorem dX0_toldOf_58 : decode cX0_toldOf 58 = .ok (.aload_n 0, 1) := dk_42 (dk_at dksX0_toldOf_3 6 rfl rfl)
theorem dX0_toldOf_59 : decode cX0_toldOf 59 = .ok (.iload_n 1, 1) := dk_27 (dk_at dksX0_toldOf_3 7 rfl rfl)
theorem dX0_toldOf_60 : decode cX0_toldOf 60 = .ok (.invokevirtual 106, 3) := dk_182 0 106 (dk_at dksX0_toldOf_3 8 rfl rfl)
theorem dX0_toldOf_63 : decode cX0_toldOf 63 = .ok (.ireturn, 1) := dk_172 (dk_at dksX0_toldOf_3 11 rfl rfl)
abbrev cX0_keepsOf : ByteArray := prog_1_method_47_code
def yX0_keepsOf : MethodName := ⟨RX0, "keepsOf", "(I)I"⟩
def dkwX0_keepsOf_1 : List UInt8 := [184, 1, 127, 182, 1, 134, 3, 17, 3, 231, 184, 1, 127, 172]
abbrev dktX0_keepsOf_1 : List UInt8 := dkwX0_keepsOf_1 ++ []
def dkwX0_keepsOf_0 : List UInt8 := [42, 27, 182, 1, 120, 42, 180, 0, 47, 27, 50, 42, 4, 3, 3, 3, 182, 1, 123, 3, 16, 100]
abbrev dktX0_keepsOf_0 : List UInt8 := dkwX0_keepsOf_0 ++ dktX0_keepsOf_1
theorem dksX0_keepsOf_0 : cX0_keepsOf.data.toList.drop 0 = dktX0_keepsOf_0 := by decide +kernel
theorem dksX0_keepsOf_1 : cX0_keepsOf.data.toList.drop 22 = dktX0_keepsOf_1 := dk_seg dksX0_keepsOf_0 22 rfl rfl
theorem dX0_keepsOf_0 : decode cX0_keepsOf 0 = .ok (.aload_n 0, 1) := dk_42 (dk_at dksX0_keepsOf_0 0 rfl rfl)
theorem dX0_keepsOf_1 : decode cX0_keepsOf 1 = .ok (.iload_n 1, 1) := dk_27 (dk_at dksX0_keepsOf_0 1 rfl rfl)
theorem dX0_keepsOf_2 : decode cX0_keepsOf 2 = .ok (.invokevirtual 376, 3) := dk_182 1 120 (dk_at dksX0_keepsOf_0 2 rfl rfl)
theorem dX0_keepsOf_5 : decode cX0_keepsOf 5 = .ok (.aload_n 0, 1) := dk_42 (dk_at dksX0_keepsOf_0 5 rfl rfl)
theorem dX0_keepsOf_6 : decode cX0_keepsOf 6 = .ok (.getfield 47, 3) := dk_180 0 47 (dk_at dksX0_keepsOf_0 6 rfl rfl)
theorem dX0_keepsOf_9 : decode cX0_keepsOf 9 = .ok (.iload_n 1, 1) := dk_27 (dk_at dksX0_keepsOf_0 9 rfl rfl)
theorem dX0_keepsOf_10 : decode cX0_keepsOf 10 = .ok (.aaload, 1) := dk_50 (dk_at dksX0_keepsOf_0 10 rfl rfl)
theorem dX0_keepsOf_11 : decode cX0_keepsOf 11 = .ok (.aload_n 0, 1) := dk_42 (dk_at dksX0_keepsOf_0 11 rfl rfl)
theorem dX0_keepsOf_12 : decode cX0_keepsOf 12 = .ok (.iconst 1, 1) := dk_4 (dk_at dksX0_keepsOf_0 12 rfl rfl)
theorem dX0_keepsOf_13 : decode cX0_keepsOf 13 = .ok (.iconst 0, 1) := dk_3 (dk_at dksX0_keepsOf_0 13 rfl rfl)
theorem dX0_keepsOf_14 : decode cX0_keepsOf 14 = .ok (.iconst 0, 1) := dk_3 (dk_at dksX0_keepsOf_0 14 rfl rfl)
theorem dX0_keepsOf_15 : decode cX0_keepsOf 15 = .ok (.iconst 0, 1) := dk_3 (dk_at dksX0_keepsOf_0 15 rfl rfl)
theorem dX0_keepsOf_16 : decode cX0_keepsOf 16 = .ok (.invokevirtual 379, 3) := dk_182 1 123 (dk_at dksX0_keepsOf_0 16 rfl rfl)
theorem dX0_keepsOf_19 : decode cX0_keepsOf 19 = .ok (.iconst 0, 1) := dk_3 (dk_at dksX0_keepsOf_0 19 rfl rfl)
theorem dX0_keepsOf_20 : decode cX0_keepsOf 20 = .ok (.bipush 100, 2) := dk_16 100 (dk_at dksX0_keepsOf_0 20 rfl rfl)
theorem dX0_keepsOf_22 : decode cX0_keepsOf 22 = .ok (.invokestatic 383, 3) := dk_184 1 127 (dk_at dksX0_keepsOf_1 0 rfl rfl)
theorem dX0_keepsOf_25 : decode cX0_keepsOf 25 = .ok (.invokevirtual 390, 3) := dk_182 1 134 (dk_at dksX0_keepsOf_1 3 rfl rfl)
theorem dX0_keepsOf_28 : decode cX0_keepsOf 28 = .ok (.iconst 0, 1) := dk_3 (dk_at dksX0_keepsOf_1 6 rfl rfl)
theorem dX0_keepsOf_29 : decode cX0_keepsOf 29 = .ok (.sipush 999, 3) := dk_17 3 231 (dk_at dksX0_keepsOf_1 7 rfl rfl)
theorem dX0_keepsOf_32 : decode cX0_keepsOf 32 = .ok (.invokestatic 383, 3) := dk_184 1 127 (dk_at dksX0_keepsOf_1 10 rfl rfl)
theorem dX0_keepsOf_35 : decode cX0_keepsOf 35 = .ok (.ireturn, 1) := dk_172 (dk_at dksX0_keepsOf_1 13 rfl rfl)
abbrev cX0_becomes : ByteArray := prog_1_method_11_code
def yX0_becomes : MethodName := ⟨RX0, "becomes", "(III)V"⟩
def dkwX0_becomes_3 : List UInt8 := [180, 0, 47, 28, 50, 29, 181, 0, 88, 177]
abbrev dktX0_becomes_3 : List UInt8 := dkwX0_becomes_3 ++ []
def dkwX0_becomes_2 : List UInt8 := [42, 29, 181, 0, 82, 167, 0, 26, 42, 180, 0, 47, 28, 50, 29, 181, 0, 85, 167, 0, 13, 42]
abbrev dktX0_becomes_2 : List UInt8 := dkwX0_becomes_2 ++ dktX0_becomes_3
def dkwX0_becomes_1 : List UInt8 := [171, 0, 0, 0, 0, 0, 48, 0, 0, 0, 2, 0, 0, 0, 0, 0, 0, 0, 27, 0, 0, 0, 1, 0, 0, 0, 35]
abbrev dktX0_becomes_1 : List UInt8 := dkwX0_becomes_1 ++ dktX0_becomes_2
def dkwX0_becomes_0 : List UInt8 := [27]
abbrev dktX0_becomes_0 : List UInt8 := dkwX0_becomes_0 ++ dktX0_becomes_1
theorem dksX0_becomes_0 : cX0_becomes.data.toList.drop 0 = dktX0_becomes_0 := by decide +kernel
theorem dksX0_becomes_1 : cX0_becomes.data.toList.drop 1 = dktX0_becomes_1 := dk_seg dksX0_becomes_0 1 rfl rfl
theorem dksX0_becomes_2 : cX0_becomes.data.toList.drop 28 = dktX0_becomes_2 := dk_seg dksX0_becomes_1 27 rfl rfl
theorem dksX0_becomes_3 : cX0_becomes.data.toList.drop 50 = dktX0_becomes_3 := dk_seg dksX0_becomes_2 22 rfl rfl
theorem dX0_becomes_0 : decode cX0_becomes 0 = .ok (.iload_n 1, 1) := dk_27 (dk_at dksX0_becomes_0 0 rfl rfl)
theorem dX0_becomes_1 : decode cX0_becomes 1 = .ok (.lookupswitch 48 #[(0, 27), (1, 35)], 27) := by decide +kernel
theorem dX0_becomes_28 : decode cX0_becomes 28 = .ok (.aload_n 0, 1) := dk_42 (dk_at dksX0_becomes_2 0 rfl rfl)
theorem dX0_becomes_29 : decode cX0_becomes 29 = .ok (.iload_n 3, 1) := dk_29 (dk_at dksX0_becomes_2 1 rfl rfl)
theorem dX0_becomes_30 : decode cX0_becomes 30 = .ok (.putfield 82, 3) := dk_181 0 82 (dk_at dksX0_becomes_2 2 rfl rfl)
theorem dX0_becomes_33 : decode cX0_becomes 33 = .ok (.goto 26, 3) := dk_167 0 26 (dk_at dksX0_becomes_2 5 rfl rfl)
theorem dX0_becomes_36 : decode cX0_becomes 36 = .ok (.aload_n 0, 1) := dk_42 (dk_at dksX0_becomes_2 8 rfl rfl)
theorem dX0_becomes_37 : decode cX0_becomes 37 = .ok (.getfield 47, 3) := dk_180 0 47 (dk_at dksX0_becomes_2 9 rfl rfl)
theorem dX0_becomes_40 : decode cX0_becomes 40 = .ok (.iload_n 2, 1) := dk_28 (dk_at dksX0_becomes_2 12 rfl rfl)
theorem dX0_becomes_41 : decode cX0_becomes 41 = .ok (.aaload, 1) := dk_50 (dk_at dksX0_becomes_2 13 rfl rfl)
theorem dX0_becomes_42 : decode cX0_becomes 42 = .ok (.iload_n 3, 1) := dk_29 (dk_at dksX0_becomes_2 14 rfl rfl)
theorem dX0_becomes_43 : decode cX0_becomes 43 = .ok (.putfield 85, 3) := dk_181 0 85 (dk_at dksX0_becomes_2 15 rfl rfl)
theorem dX0_becomes_46 : decode cX0_becomes 46 = .ok (.goto 13, 3) := dk_167 0 13 (dk_at dksX0_becomes_2 18 rfl rfl)
theorem dX0_becomes_49 : decode cX0_becomes 49 = .ok (.aload_n 0, 1) := dk_42 (dk_at dksX0_becomes_2 21 rfl rfl)
theorem dX0_becomes_50 : decode cX0_becomes 50 = .ok (.getfield 47, 3) := dk_180 0 47 (dk_at dksX0_becomes_3 0 rfl rfl)
theorem dX0_becomes_53 : decode cX0_becomes 53 = .ok (.iload_n 2, 1) := dk_28 (dk_at dksX0_becomes_3 3 rfl rfl)
theorem dX0_becomes_54 : decode cX0_becomes 54 = .ok (.aaload, 1) := dk_50 (dk_at dksX0_becomes_3 4 rfl rfl)
theorem dX0_becomes_55 : decode cX0_becomes 55 = .ok (.iload_n 3, 1) := dk_29 (dk_at dksX0_becomes_3 5 rfl rfl)
theorem dX0_becomes_56 : decode cX0_becomes 56 = .ok (.putfield 88, 3) := dk_181 0 88 (dk_at dksX0_becomes_3 6 rfl rfl)
theorem dX0_becomes_59 : decode cX0_becomes 59 = .ok (.return_, 1) := dk_177 (dk_at dksX0_becomes_3 9 rfl rfl)
abbrev cX0_run : ByteArray := prog_1_method_19_code
def yX0_run : MethodName := ⟨RX0, "run", "(II)I"⟩
def dkwX0_run_1 : List UInt8 := [42, 180, 0, 132, 28, 46, 167, 0, 5, 16, 254, 172]
abbrev dktX0_run_1 : List UInt8 := dkwX0_run_1 ++ []
def dkwX0_run_0 : List UInt8 := [27, 184, 0, 55, 153, 0, 29, 28, 133, 9, 42, 27, 182, 0, 135, 4, 100, 133, 184, 0, 14, 153, 0, 12]
abbrev dktX0_run_0 : List UInt8 := dkwX0_run_0 ++ dktX0_run_1
theorem dksX0_run_0 : cX0_run.data.toList.drop 0 = dktX0_run_0 := by decide +kernel
theorem dksX0_run_1 : cX0_run.data.toList.drop 24 = dktX0_run_1 := dk_seg dksX0_run_0 24 rfl rfl
theorem dX0_run_0 : decode cX0_run 0 = .ok (.iload_n 1, 1) := dk_27 (dk_at dksX0_run_0 0 rfl rfl)
theorem dX0_run_1 : decode cX0_run 1 = .ok (.invokestatic 55, 3) := dk_184 0 55 (dk_at dksX0_run_0 1 rfl rfl)
theorem dX0_run_4 : decode cX0_run 4 = .ok (.ifCond .eq 29, 3) := dk_153 0 29 (dk_at dksX0_run_0 4 rfl rfl)
theorem dX0_run_7 : decode cX0_run 7 = .ok (.iload_n 2, 1) := dk_28 (dk_at dksX0_run_0 7 rfl rfl)
theorem dX0_run_8 : decode cX0_run 8 = .ok (.i2l, 1) := dk_133 (dk_at dksX0_run_0 8 rfl rfl)
theorem dX0_run_9 : decode cX0_run 9 = .ok (.lconst 0, 1) := dk_9 (dk_at dksX0_run_0 9 rfl rfl)
theorem dX0_run_10 : decode cX0_run 10 = .ok (.aload_n 0, 1) := dk_42 (dk_at dksX0_run_0 10 rfl rfl)
theorem dX0_run_11 : decode cX0_run 11 = .ok (.iload_n 1, 1) := dk_27 (dk_at dksX0_run_0 11 rfl rfl)
theorem dX0_run_12 : decode cX0_run 12 = .ok (.invokevirtual 135, 3) := dk_182 0 135 (dk_at dksX0_run_0 12 rfl rfl)
theorem dX0_run_15 : decode cX0_run 15 = .ok (.iconst 1, 1) := dk_4 (dk_at dksX0_run_0 15 rfl rfl)
theorem dX0_run_16 : decode cX0_run 16 = .ok (.isub, 1) := dk_100 (dk_at dksX0_run_0 16 rfl rfl)
theorem dX0_run_17 : decode cX0_run 17 = .ok (.i2l, 1) := dk_133 (dk_at dksX0_run_0 17 rfl rfl)
theorem dX0_run_18 : decode cX0_run 18 = .ok (.invokestatic 14, 3) := dk_184 0 14 (dk_at dksX0_run_0 18 rfl rfl)
theorem dX0_run_21 : decode cX0_run 21 = .ok (.ifCond .eq 12, 3) := dk_153 0 12 (dk_at dksX0_run_0 21 rfl rfl)
theorem dX0_run_24 : decode cX0_run 24 = .ok (.aload_n 0, 1) := dk_42 (dk_at dksX0_run_1 0 rfl rfl)
theorem dX0_run_25 : decode cX0_run 25 = .ok (.getfield 132, 3) := dk_180 0 132 (dk_at dksX0_run_1 1 rfl rfl)
theorem dX0_run_28 : decode cX0_run 28 = .ok (.iload_n 2, 1) := dk_28 (dk_at dksX0_run_1 4 rfl rfl)
theorem dX0_run_29 : decode cX0_run 29 = .ok (.iaload, 1) := dk_46 (dk_at dksX0_run_1 5 rfl rfl)
theorem dX0_run_30 : decode cX0_run 30 = .ok (.goto 5, 3) := dk_167 0 5 (dk_at dksX0_run_1 6 rfl rfl)
theorem dX0_run_33 : decode cX0_run 33 = .ok (.bipush (-2), 2) := dk_16 254 (dk_at dksX0_run_1 9 rfl rfl)
theorem dX0_run_35 : decode cX0_run 35 = .ok (.ireturn, 1) := dk_172 (dk_at dksX0_run_1 11 rfl rfl)
abbrev cX0_feed : ByteArray := prog_1_method_39_code
def yX0_feed : MethodName := ⟨RX0, "feed", "(I)I"⟩
def dkwX0_feed_2 : List UInt8 := [181, 1, 9, 42, 180, 1, 9, 172]
abbrev dktX0_feed_2 : List UInt8 := dkwX0_feed_2 ++ []
def dkwX0_feed_1 : List UInt8 := [160, 0, 6, 16, 252, 172, 42, 180, 0, 141, 42, 180, 1, 9, 27, 145, 84, 42, 89, 180, 1, 9, 4, 96]
abbrev dktX0_feed_1 : List UInt8 := dkwX0_feed_1 ++ dktX0_feed_2
def dkwX0_feed_0 : List UInt8 := [27, 133, 9, 20, 1, 26, 184, 0, 14, 154, 0, 6, 16, 254, 172, 42, 180, 1, 9, 17, 0, 160]
abbrev dktX0_feed_0 : List UInt8 := dkwX0_feed_0 ++ dktX0_feed_1
theorem dksX0_feed_0 : cX0_feed.data.toList.drop 0 = dktX0_feed_0 := by decide +kernel
theorem dksX0_feed_1 : cX0_feed.data.toList.drop 22 = dktX0_feed_1 := dk_seg dksX0_feed_0 22 rfl rfl
theorem dksX0_feed_2 : cX0_feed.data.toList.drop 46 = dktX0_feed_2 := dk_seg dksX0_feed_1 24 rfl rfl
theorem dX0_feed_0 : decode cX0_feed 0 = .ok (.iload_n 1, 1) := dk_27 (dk_at dksX0_feed_0 0 rfl rfl)
theorem dX0_feed_1 : decode cX0_feed 1 = .ok (.i2l, 1) := dk_133 (dk_at dksX0_feed_0 1 rfl rfl)
theorem dX0_feed_2 : decode cX0_feed 2 = .ok (.lconst 0, 1) := dk_9 (dk_at dksX0_feed_0 2 rfl rfl)
theorem dX0_feed_3 : decode cX0_feed 3 = .ok (.ldc2_w 282, 3) := dk_20 1 26 (dk_at dksX0_feed_0 3 rfl rfl)
theorem dX0_feed_6 : decode cX0_feed 6 = .ok (.invokestatic 14, 3) := dk_184 0 14 (dk_at dksX0_feed_0 6 rfl rfl)
theorem dX0_feed_9 : decode cX0_feed 9 = .ok (.ifCond .ne 6, 3) := dk_154 0 6 (dk_at dksX0_feed_0 9 rfl rfl)
theorem dX0_feed_12 : decode cX0_feed 12 = .ok (.bipush (-2), 2) := dk_16 254 (dk_at dksX0_feed_0 12 rfl rfl)
theorem dX0_feed_14 : decode cX0_feed 14 = .ok (.ireturn, 1) := dk_172 (dk_at dksX0_feed_0 14 rfl rfl)
theorem dX0_feed_15 : decode cX0_feed 15 = .ok (.aload_n 0, 1) := dk_42 (dk_at dksX0_feed_0 15 rfl rfl)
theorem dX0_feed_16 : decode cX0_feed 16 = .ok (.getfield 265, 3) := dk_180 1 9 (dk_at dksX0_feed_0 16 rfl rfl)
theorem dX0_feed_19 : decode cX0_feed 19 = .ok (.sipush 160, 3) := dk_17 0 160 (dk_at dksX0_feed_0 19 rfl rfl)
theorem dX0_feed_22 : decode cX0_feed 22 = .ok (.if_icmp .ne 6, 3) := dk_160 0 6 (dk_at dksX0_feed_1 0 rfl rfl)
theorem dX0_feed_25 : decode cX0_feed 25 = .ok (.bipush (-4), 2) := dk_16 252 (dk_at dksX0_feed_1 3 rfl rfl)
theorem dX0_feed_27 : decode cX0_feed 27 = .ok (.ireturn, 1) := dk_172 (dk_at dksX0_feed_1 5 rfl rfl)
theorem dX0_feed_28 : decode cX0_feed 28 = .ok (.aload_n 0, 1) := dk_42 (dk_at dksX0_feed_1 6 rfl rfl)
theorem dX0_feed_29 : decode cX0_feed 29 = .ok (.getfield 141, 3) := dk_180 0 141 (dk_at dksX0_feed_1 7 rfl rfl)
theorem dX0_feed_32 : decode cX0_feed 32 = .ok (.aload_n 0, 1) := dk_42 (dk_at dksX0_feed_1 10 rfl rfl)
theorem dX0_feed_33 : decode cX0_feed 33 = .ok (.getfield 265, 3) := dk_180 1 9 (dk_at dksX0_feed_1 11 rfl rfl)
theorem dX0_feed_36 : decode cX0_feed 36 = .ok (.iload_n 1, 1) := dk_27 (dk_at dksX0_feed_1 14 rfl rfl)
theorem dX0_feed_37 : decode cX0_feed 37 = .ok (.i2b, 1) := dk_145 (dk_at dksX0_feed_1 15 rfl rfl)
theorem dX0_feed_38 : decode cX0_feed 38 = .ok (.bastore, 1) := dk_84 (dk_at dksX0_feed_1 16 rfl rfl)
theorem dX0_feed_39 : decode cX0_feed 39 = .ok (.aload_n 0, 1) := dk_42 (dk_at dksX0_feed_1 17 rfl rfl)
theorem dX0_feed_40 : decode cX0_feed 40 = .ok (.dup, 1) := dk_89 (dk_at dksX0_feed_1 18 rfl rfl)
theorem dX0_feed_41 : decode cX0_feed 41 = .ok (.getfield 265, 3) := dk_180 1 9 (dk_at dksX0_feed_1 19 rfl rfl)
theorem dX0_feed_44 : decode cX0_feed 44 = .ok (.iconst 1, 1) := dk_4 (dk_at dksX0_feed_1 22 rfl rfl)
theorem dX0_feed_45 : decode cX0_feed 45 = .ok (.iadd, 1) := dk_96 (dk_at dksX0_feed_1 23 rfl rfl)
theorem dX0_feed_46 : decode cX0_feed 46 = .ok (.putfield 265, 3) := dk_181 1 9 (dk_at dksX0_feed_2 0 rfl rfl)
theorem dX0_feed_49 : decode cX0_feed 49 = .ok (.aload_n 0, 1) := dk_42 (dk_at dksX0_feed_2 3 rfl rfl)
theorem dX0_feed_50 : decode cX0_feed 50 = .ok (.getfield 265, 3) := dk_180 1 9 (dk_at dksX0_feed_2 4 rfl rfl)
theorem dX0_feed_53 : decode cX0_feed 53 = .ok (.ireturn, 1) := dk_172 (dk_at dksX0_feed_2 7 rfl rfl)
abbrev cX0_text : ByteArray := prog_1_method_40_code
def yX0_text : MethodName := ⟨RX0, "text", "()I"⟩
def dkwX0_text_0 : List UInt8 := [42, 180, 1, 20, 16, 6, 160, 0, 8, 16, 252, 167, 0, 7, 42, 182, 1, 23, 172]
abbrev dktX0_text_0 : List UInt8 := dkwX0_text_0 ++ []
theorem dksX0_text_0 : cX0_text.data.toList.drop 0 = dktX0_text_0 := by decide +kernel
theorem dX0_text_0 : decode cX0_text 0 = .ok (.aload_n 0, 1) := dk_42 (dk_at dksX0_text_0 0 rfl rfl)
theorem dX0_text_1 : decode cX0_text 1 = .ok (.getfield 276, 3) := dk_180 1 20 (dk_at dksX0_text_0 1 rfl rfl)
theorem dX0_text_4 : decode cX0_text 4 = .ok (.bipush 6, 2) := dk_16 6 (dk_at dksX0_text_0 4 rfl rfl)
theorem dX0_text_6 : decode cX0_text 6 = .ok (.if_icmp .ne 8, 3) := dk_160 0 8 (dk_at dksX0_text_0 6 rfl rfl)
theorem dX0_text_9 : decode cX0_text 9 = .ok (.bipush (-4), 2) := dk_16 252 (dk_at dksX0_text_0 9 rfl rfl)
theorem dX0_text_11 : decode cX0_text 11 = .ok (.goto 7, 3) := dk_167 0 7 (dk_at dksX0_text_0 11 rfl rfl)
theorem dX0_text_14 : decode cX0_text 14 = .ok (.aload_n 0, 1) := dk_42 (dk_at dksX0_text_0 14 rfl rfl)
theorem dX0_text_15 : decode cX0_text 15 = .ok (.invokevirtual 279, 3) := dk_182 1 23 (dk_at dksX0_text_0 15 rfl rfl)
theorem dX0_text_18 : decode cX0_text 18 = .ok (.ireturn, 1) := dk_172 (dk_at dksX0_text_0 18 rfl rfl)
abbrev cX0_newText : ByteArray := prog_1_method_37_code
def yX0_newText : MethodName := ⟨RX0, "newText", "()I"⟩
def dkwX0_newText_5 : List UInt8 := [100, 172]
abbrev dktX0_newText_5 : List UInt8 := dkwX0_newText_5 ++ []
def dkwX0_newText_4 : List UInt8 := [180, 1, 16, 42, 180, 1, 20, 43, 83, 42, 89, 180, 1, 20, 4, 96, 181, 1, 20, 42, 180, 1, 20, 4]
abbrev dktX0_newText_4 : List UInt8 := dkwX0_newText_4 ++ dktX0_newText_5
def dkwX0_newText_3 : List UInt8 := [180, 0, 162, 153, 0, 8, 42, 180, 0, 188, 191, 167, 0, 12, 77, 16, 156, 42, 180, 0, 159, 100, 172, 42]
abbrev dktX0_newText_3 : List UInt8 := dkwX0_newText_3 ++ dktX0_newText_4
def dkwX0_newText_2 : List UInt8 := [43, 28, 42, 182, 1, 6, 83, 42, 42, 16, 59, 182, 0, 245, 182, 0, 215, 132, 2, 1, 167, 255, 222, 42]
abbrev dktX0_newText_2 : List UInt8 := dkwX0_newText_2 ++ dktX0_newText_3
def dkwX0_newText_1 : List UInt8 := [189, 1, 12, 76, 42, 182, 0, 209, 3, 61, 28, 6, 162, 0, 35, 42, 42, 28, 182, 0, 223, 182, 0, 215]
abbrev dktX0_newText_1 : List UInt8 := dkwX0_newText_1 ++ dktX0_newText_2
def dkwX0_newText_0 : List UInt8 := [42, 42, 180, 1, 9, 181, 0, 138, 42, 3, 181, 1, 9, 42, 3, 181, 0, 153, 42, 3, 181, 0, 212, 6]
abbrev dktX0_newText_0 : List UInt8 := dkwX0_newText_0 ++ dktX0_newText_1
theorem dksX0_newText_0 : cX0_newText.data.toList.drop 0 = dktX0_newText_0 := by decide +kernel
theorem dksX0_newText_1 : cX0_newText.data.toList.drop 24 = dktX0_newText_1 := dk_seg dksX0_newText_0 24 rfl rfl
theorem dksX0_newText_2 : cX0_newText.data.toList.drop 48 = dktX0_newText_2 := dk_seg dksX0_newText_1 24 rfl rfl
theorem dksX0_newText_3 : cX0_newText.data.toList.drop 72 = dktX0_newText_3 := dk_seg dksX0_newText_2 24 rfl rfl
theorem dksX0_newText_4 : cX0_newText.data.toList.drop 96 = dktX0_newText_4 := dk_seg dksX0_newText_3 24 rfl rfl
theorem dksX0_newText_5 : cX0_newText.data.toList.drop 120 = dktX0_newText_5 := dk_seg dksX0_newText_4 24 rfl rfl
theorem dX0_newText_0 : decode cX0_newText 0 = .ok (.aload_n 0, 1) := dk_42 (dk_at dksX0_newText_0 0 rfl rfl)
theorem dX0_newText_1 : decode cX0_newText 1 = .ok (.aload_n 0, 1) := dk_42 (dk_at dksX0_newText_0 1 rfl rfl)
theorem dX0_newText_2 : decode cX0_newText 2 = .ok (.getfield 265, 3) := dk_180 1 9 (dk_at dksX0_newText_0 2 rfl rfl)
theorem dX0_newText_5 : decode cX0_newText 5 = .ok (.putfield 138, 3) := dk_181 0 138 (dk_at dksX0_newText_0 5 rfl rfl)
theorem dX0_newText_8 : decode cX0_newText 8 = .ok (.aload_n 0, 1) := dk_42 (dk_at dksX0_newText_0 8 rfl rfl)
theorem dX0_newText_9 : decode cX0_newText 9 = .ok (.iconst 0, 1) := dk_3 (dk_at dksX0_newText_0 9 rfl rfl)
theorem dX0_newText_10 : decode cX0_newText 10 = .ok (.putfield 265, 3) := dk_181 1 9 (dk_at dksX0_newText_0 10 rfl rfl)
theorem dX0_newText_13 : decode cX0_newText 13 = .ok (.aload_n 0, 1) := dk_42 (dk_at dksX0_newText_0 13 rfl rfl)
theorem dX0_newText_14 : decode cX0_newText 14 = .ok (.iconst 0, 1) := dk_3 (dk_at dksX0_newText_0 14 rfl rfl)
theorem dX0_newText_15 : decode cX0_newText 15 = .ok (.putfield 153, 3) := dk_181 0 153 (dk_at dksX0_newText_0 15 rfl rfl)
theorem dX0_newText_18 : decode cX0_newText 18 = .ok (.aload_n 0, 1) := dk_42 (dk_at dksX0_newText_0 18 rfl rfl)
theorem dX0_newText_19 : decode cX0_newText 19 = .ok (.iconst 0, 1) := dk_3 (dk_at dksX0_newText_0 19 rfl rfl)
theorem dX0_newText_20 : decode cX0_newText 20 = .ok (.putfield 212, 3) := dk_181 0 212 (dk_at dksX0_newText_0 20 rfl rfl)
theorem dX0_newText_23 : decode cX0_newText 23 = .ok (.iconst 3, 1) := dk_6 (dk_at dksX0_newText_0 23 rfl rfl)
theorem dX0_newText_24 : decode cX0_newText 24 = .ok (.anewarray 268, 3) := dk_189 1 12 (dk_at dksX0_newText_1 0 rfl rfl)
theorem dX0_newText_27 : decode cX0_newText 27 = .ok (.astore_n 1, 1) := dk_76 (dk_at dksX0_newText_1 3 rfl rfl)
theorem dX0_newText_28 : decode cX0_newText 28 = .ok (.aload_n 0, 1) := dk_42 (dk_at dksX0_newText_1 4 rfl rfl)
theorem dX0_newText_29 : decode cX0_newText 29 = .ok (.invokevirtual 209, 3) := dk_182 0 209 (dk_at dksX0_newText_1 5 rfl rfl)
theorem dX0_newText_32 : decode cX0_newText 32 = .ok (.iconst 0, 1) := dk_3 (dk_at dksX0_newText_1 8 rfl rfl)
theorem dX0_newText_33 : decode cX0_newText 33 = .ok (.istore_n 2, 1) := dk_61 (dk_at dksX0_newText_1 9 rfl rfl)
theorem dX0_newText_34 : decode cX0_newText 34 = .ok (.iload_n 2, 1) := dk_28 (dk_at dksX0_newText_1 10 rfl rfl)
theorem dX0_newText_35 : decode cX0_newText 35 = .ok (.iconst 3, 1) := dk_6 (dk_at dksX0_newText_1 11 rfl rfl)
theorem dX0_newText_36 : decode cX0_newText 36 = .ok (.if_icmp .ge 35, 3) := dk_162 0 35 (dk_at dksX0_newText_1 12 rfl rfl)
theorem dX0_newText_39 : decode cX0_newText 39 = .ok (.aload_n 0, 1) := dk_42 (dk_at dksX0_newText_1 15 rfl rfl)
theorem dX0_newText_40 : decode cX0_newText 40 = .ok (.aload_n 0, 1) := dk_42 (dk_at dksX0_newText_1 16 rfl rfl)
theorem dX0_newText_41 : decode cX0_newText 41 = .ok (.iload_n 2, 1) := dk_28 (dk_at dksX0_newText_1 17 rfl rfl)
theorem dX0_newText_42 : decode cX0_newText 42 = .ok (.invokevirtual 223, 3) := dk_182 0 223 (dk_at dksX0_newText_1 18 rfl rfl)
theorem dX0_newText_45 : decode cX0_newText 45 = .ok (.invokevirtual 215, 3) := dk_182 0 215 (dk_at dksX0_newText_1 21 rfl rfl)
theorem dX0_newText_48 : decode cX0_newText 48 = .ok (.aload_n 1, 1) := dk_43 (dk_at dksX0_newText_2 0 rfl rfl)
theorem dX0_newText_49 : decode cX0_newText 49 = .ok (.iload_n 2, 1) := dk_28 (dk_at dksX0_newText_2 1 rfl rfl)
theorem dX0_newText_50 : decode cX0_newText 50 = .ok (.aload_n 0, 1) := dk_42 (dk_at dksX0_newText_2 2 rfl rfl)
theorem dX0_newText_51 : decode cX0_newText 51 = .ok (.invokevirtual 262, 3) := dk_182 1 6 (dk_at dksX0_newText_2 3 rfl rfl)
theorem dX0_newText_54 : decode cX0_newText 54 = .ok (.aastore, 1) := dk_83 (dk_at dksX0_newText_2 6 rfl rfl)
theorem dX0_newText_55 : decode cX0_newText 55 = .ok (.aload_n 0, 1) := dk_42 (dk_at dksX0_newText_2 7 rfl rfl)
theorem dX0_newText_56 : decode cX0_newText 56 = .ok (.aload_n 0, 1) := dk_42 (dk_at dksX0_newText_2 8 rfl rfl)
theorem dX0_newText_57 : decode cX0_newText 57 = .ok (.bipush 59, 2) := dk_16 59 (dk_at dksX0_newText_2 9 rfl rfl)
theorem dX0_newText_59 : decode cX0_newText 59 = .ok (.invokevirtual 245, 3) := dk_182 0 245 (dk_at dksX0_newText_2 11 rfl rfl)
theorem dX0_newText_62 : decode cX0_newText 62 = .ok (.invokevirtual 215, 3) := dk_182 0 215 (dk_at dksX0_newText_2 14 rfl rfl)
theorem dX0_newText_65 : decode cX0_newText 65 = .ok (.iinc 2 1, 3) := dk_132 2 1 (dk_at dksX0_newText_2 17 rfl rfl)
theorem dX0_newText_68 : decode cX0_newText 68 = .ok (.goto (-34), 3) := dk_167 255 222 (dk_at dksX0_newText_2 20 rfl rfl)
theorem dX0_newText_71 : decode cX0_newText 71 = .ok (.aload_n 0, 1) := dk_42 (dk_at dksX0_newText_2 23 rfl rfl)
theorem dX0_newText_72 : decode cX0_newText 72 = .ok (.getfield 162, 3) := dk_180 0 162 (dk_at dksX0_newText_3 0 rfl rfl)
theorem dX0_newText_75 : decode cX0_newText 75 = .ok (.ifCond .eq 8, 3) := dk_153 0 8 (dk_at dksX0_newText_3 3 rfl rfl)
theorem dX0_newText_78 : decode cX0_newText 78 = .ok (.aload_n 0, 1) := dk_42 (dk_at dksX0_newText_3 6 rfl rfl)
theorem dX0_newText_79 : decode cX0_newText 79 = .ok (.getfield 188, 3) := dk_180 0 188 (dk_at dksX0_newText_3 7 rfl rfl)
theorem dX0_newText_82 : decode cX0_newText 82 = .ok (.athrow, 1) := dk_191 (dk_at dksX0_newText_3 10 rfl rfl)
theorem dX0_newText_83 : decode cX0_newText 83 = .ok (.goto 12, 3) := dk_167 0 12 (dk_at dksX0_newText_3 11 rfl rfl)
theorem dX0_newText_86 : decode cX0_newText 86 = .ok (.astore_n 2, 1) := dk_77 (dk_at dksX0_newText_3 14 rfl rfl)
theorem dX0_newText_87 : decode cX0_newText 87 = .ok (.bipush (-100), 2) := dk_16 156 (dk_at dksX0_newText_3 15 rfl rfl)
theorem dX0_newText_89 : decode cX0_newText 89 = .ok (.aload_n 0, 1) := dk_42 (dk_at dksX0_newText_3 17 rfl rfl)
theorem dX0_newText_90 : decode cX0_newText 90 = .ok (.getfield 159, 3) := dk_180 0 159 (dk_at dksX0_newText_3 18 rfl rfl)
theorem dX0_newText_93 : decode cX0_newText 93 = .ok (.isub, 1) := dk_100 (dk_at dksX0_newText_3 21 rfl rfl)
theorem dX0_newText_94 : decode cX0_newText 94 = .ok (.ireturn, 1) := dk_172 (dk_at dksX0_newText_3 22 rfl rfl)
theorem dX0_newText_95 : decode cX0_newText 95 = .ok (.aload_n 0, 1) := dk_42 (dk_at dksX0_newText_3 23 rfl rfl)
theorem dX0_newText_96 : decode cX0_newText 96 = .ok (.getfield 272, 3) := dk_180 1 16 (dk_at dksX0_newText_4 0 rfl rfl)
theorem dX0_newText_99 : decode cX0_newText 99 = .ok (.aload_n 0, 1) := dk_42 (dk_at dksX0_newText_4 3 rfl rfl)
theorem dX0_newText_100 : decode cX0_newText 100 = .ok (.getfield 276, 3) := dk_180 1 20 (dk_at dksX0_newText_4 4 rfl rfl)
theorem dX0_newText_103 : decode cX0_newText 103 = .ok (.aload_n 1, 1) := dk_43 (dk_at dksX0_newText_4 7 rfl rfl)
theorem dX0_newText_104 : decode cX0_newText 104 = .ok (.aastore, 1) := dk_83 (dk_at dksX0_newText_4 8 rfl rfl)
theorem dX0_newText_105 : decode cX0_newText 105 = .ok (.aload_n 0, 1) := dk_42 (dk_at dksX0_newText_4 9 rfl rfl)
theorem dX0_newText_106 : decode cX0_newText 106 = .ok (.dup, 1) := dk_89 (dk_at dksX0_newText_4 10 rfl rfl)
theorem dX0_newText_107 : decode cX0_newText 107 = .ok (.getfield 276, 3) := dk_180 1 20 (dk_at dksX0_newText_4 11 rfl rfl)
theorem dX0_newText_110 : decode cX0_newText 110 = .ok (.iconst 1, 1) := dk_4 (dk_at dksX0_newText_4 14 rfl rfl)
theorem dX0_newText_111 : decode cX0_newText 111 = .ok (.iadd, 1) := dk_96 (dk_at dksX0_newText_4 15 rfl rfl)
theorem dX0_newText_112 : decode cX0_newText 112 = .ok (.putfield 276, 3) := dk_181 1 20 (dk_at dksX0_newText_4 16 rfl rfl)
theorem dX0_newText_115 : decode cX0_newText 115 = .ok (.aload_n 0, 1) := dk_42 (dk_at dksX0_newText_4 19 rfl rfl)
theorem dX0_newText_116 : decode cX0_newText 116 = .ok (.getfield 276, 3) := dk_180 1 20 (dk_at dksX0_newText_4 20 rfl rfl)
theorem dX0_newText_119 : decode cX0_newText 119 = .ok (.iconst 1, 1) := dk_4 (dk_at dksX0_newText_4 23 rfl rfl)
theorem dX0_newText_120 : decode cX0_newText 120 = .ok (.isub, 1) := dk_100 (dk_at dksX0_newText_5 0 rfl rfl)
theorem dX0_newText_121 : decode cX0_newText 121 = .ok (.ireturn, 1) := dk_172 (dk_at dksX0_newText_5 1 rfl rfl)
abbrev cX0_next : ByteArray := prog_1_method_23_code
def yX0_next : MethodName := ⟨RX0, "next", "()V"⟩
def dkwX0_next_5 : List UInt8 := [18, 181, 27, 182, 0, 183, 156, 0, 8, 42, 180, 0, 188, 191, 177]
abbrev dktX0_next_5 : List UInt8 := dkwX0_next_5 ++ []
def dkwX0_next_4 : List UInt8 := [167, 0, 37, 42, 7, 181, 0, 162, 42, 27, 181, 0, 178, 42, 89, 180, 0, 153, 4, 96, 181, 0, 153]
abbrev dktX0_next_4 : List UInt8 := dkwX0_next_4 ++ dktX0_next_5
def dkwX0_next_3 : List UInt8 := [184, 0, 165, 153, 0, 10, 42, 182, 0, 168, 167, 0, 51, 27, 184, 0, 172, 153, 0, 10, 42, 182, 0, 175]
abbrev dktX0_next_3 : List UInt8 := dkwX0_next_3 ++ dktX0_next_4
def dkwX0_next_2 : List UInt8 := [42, 42, 180, 0, 153, 182, 0, 156, 60, 27, 2, 160, 0, 11, 42, 3, 181, 0, 162, 167, 0, 65, 27]
abbrev dktX0_next_2 : List UInt8 := dkwX0_next_2 ++ dktX0_next_3
def dkwX0_next_1 : List UInt8 := [160, 0, 16, 42, 89, 180, 0, 153, 4, 96, 181, 0, 153, 167, 255, 220, 42, 42, 180, 0, 153, 181, 0, 159]
abbrev dktX0_next_1 : List UInt8 := dkwX0_next_1 ++ dktX0_next_2
def dkwX0_next_0 : List UInt8 := [42, 42, 180, 0, 153, 182, 0, 156, 16, 32, 159, 0, 16, 42, 42, 180, 0, 153, 182, 0, 156, 16, 10]
abbrev dktX0_next_0 : List UInt8 := dkwX0_next_0 ++ dktX0_next_1
theorem dksX0_next_0 : cX0_next.data.toList.drop 0 = dktX0_next_0 := by decide +kernel
theorem dksX0_next_1 : cX0_next.data.toList.drop 23 = dktX0_next_1 := dk_seg dksX0_next_0 23 rfl rfl
theorem dksX0_next_2 : cX0_next.data.toList.drop 47 = dktX0_next_2 := dk_seg dksX0_next_1 24 rfl rfl
theorem dksX0_next_3 : cX0_next.data.toList.drop 70 = dktX0_next_3 := dk_seg dksX0_next_2 23 rfl rfl
theorem dksX0_next_4 : cX0_next.data.toList.drop 94 = dktX0_next_4 := dk_seg dksX0_next_3 24 rfl rfl
theorem dksX0_next_5 : cX0_next.data.toList.drop 117 = dktX0_next_5 := dk_seg dksX0_next_4 23 rfl rfl
theorem dX0_next_0 : decode cX0_next 0 = .ok (.aload_n 0, 1) := dk_42 (dk_at dksX0_next_0 0 rfl rfl)
theorem dX0_next_1 : decode cX0_next 1 = .ok (.aload_n 0, 1) := dk_42 (dk_at dksX0_next_0 1 rfl rfl)
theorem dX0_next_2 : decode cX0_next 2 = .ok (.getfield 153, 3) := dk_180 0 153 (dk_at dksX0_next_0 2 rfl rfl)
theorem dX0_next_5 : decode cX0_next 5 = .ok (.invokevirtual 156, 3) := dk_182 0 156 (dk_at dksX0_next_0 5 rfl rfl)
theorem dX0_next_8 : decode cX0_next 8 = .ok (.bipush 32, 2) := dk_16 32 (dk_at dksX0_next_0 8 rfl rfl)
theorem dX0_next_10 : decode cX0_next 10 = .ok (.if_icmp .eq 16, 3) := dk_159 0 16 (dk_at dksX0_next_0 10 rfl rfl)
theorem dX0_next_13 : decode cX0_next 13 = .ok (.aload_n 0, 1) := dk_42 (dk_at dksX0_next_0 13 rfl rfl)
theorem dX0_next_14 : decode cX0_next 14 = .ok (.aload_n 0, 1) := dk_42 (dk_at dksX0_next_0 14 rfl rfl)
theorem dX0_next_15 : decode cX0_next 15 = .ok (.getfield 153, 3) := dk_180 0 153 (dk_at dksX0_next_0 15 rfl rfl)
theorem dX0_next_18 : decode cX0_next 18 = .ok (.invokevirtual 156, 3) := dk_182 0 156 (dk_at dksX0_next_0 18 rfl rfl)
theorem dX0_next_21 : decode cX0_next 21 = .ok (.bipush 10, 2) := dk_16 10 (dk_at dksX0_next_0 21 rfl rfl)
theorem dX0_next_23 : decode cX0_next 23 = .ok (.if_icmp .ne 16, 3) := dk_160 0 16 (dk_at dksX0_next_1 0 rfl rfl)
theorem dX0_next_26 : decode cX0_next 26 = .ok (.aload_n 0, 1) := dk_42 (dk_at dksX0_next_1 3 rfl rfl)
theorem dX0_next_27 : decode cX0_next 27 = .ok (.dup, 1) := dk_89 (dk_at dksX0_next_1 4 rfl rfl)
theorem dX0_next_28 : decode cX0_next 28 = .ok (.getfield 153, 3) := dk_180 0 153 (dk_at dksX0_next_1 5 rfl rfl)
theorem dX0_next_31 : decode cX0_next 31 = .ok (.iconst 1, 1) := dk_4 (dk_at dksX0_next_1 8 rfl rfl)
theorem dX0_next_32 : decode cX0_next 32 = .ok (.iadd, 1) := dk_96 (dk_at dksX0_next_1 9 rfl rfl)
theorem dX0_next_33 : decode cX0_next 33 = .ok (.putfield 153, 3) := dk_181 0 153 (dk_at dksX0_next_1 10 rfl rfl)
theorem dX0_next_36 : decode cX0_next 36 = .ok (.goto (-36), 3) := dk_167 255 220 (dk_at dksX0_next_1 13 rfl rfl)
theorem dX0_next_39 : decode cX0_next 39 = .ok (.aload_n 0, 1) := dk_42 (dk_at dksX0_next_1 16 rfl rfl)
theorem dX0_next_40 : decode cX0_next 40 = .ok (.aload_n 0, 1) := dk_42 (dk_at dksX0_next_1 17 rfl rfl)
theorem dX0_next_41 : decode cX0_next 41 = .ok (.getfield 153, 3) := dk_180 0 153 (dk_at dksX0_next_1 18 rfl rfl)
theorem dX0_next_44 : decode cX0_next 44 = .ok (.putfield 159, 3) := dk_181 0 159 (dk_at dksX0_next_1 21 rfl rfl)
theorem dX0_next_47 : decode cX0_next 47 = .ok (.aload_n 0, 1) := dk_42 (dk_at dksX0_next_2 0 rfl rfl)
theorem dX0_next_48 : decode cX0_next 48 = .ok (.aload_n 0, 1) := dk_42 (dk_at dksX0_next_2 1 rfl rfl)
theorem dX0_next_49 : decode cX0_next 49 = .ok (.getfield 153, 3) := dk_180 0 153 (dk_at dksX0_next_2 2 rfl rfl)
theorem dX0_next_52 : decode cX0_next 52 = .ok (.invokevirtual 156, 3) := dk_182 0 156 (dk_at dksX0_next_2 5 rfl rfl)
theorem dX0_next_55 : decode cX0_next 55 = .ok (.istore_n 1, 1) := dk_60 (dk_at dksX0_next_2 8 rfl rfl)
theorem dX0_next_56 : decode cX0_next 56 = .ok (.iload_n 1, 1) := dk_27 (dk_at dksX0_next_2 9 rfl rfl)
theorem dX0_next_57 : decode cX0_next 57 = .ok (.iconst (-1), 1) := dk_2 (dk_at dksX0_next_2 10 rfl rfl)
theorem dX0_next_58 : decode cX0_next 58 = .ok (.if_icmp .ne 11, 3) := dk_160 0 11 (dk_at dksX0_next_2 11 rfl rfl)
theorem dX0_next_61 : decode cX0_next 61 = .ok (.aload_n 0, 1) := dk_42 (dk_at dksX0_next_2 14 rfl rfl)
theorem dX0_next_62 : decode cX0_next 62 = .ok (.iconst 0, 1) := dk_3 (dk_at dksX0_next_2 15 rfl rfl)
theorem dX0_next_63 : decode cX0_next 63 = .ok (.putfield 162, 3) := dk_181 0 162 (dk_at dksX0_next_2 16 rfl rfl)
theorem dX0_next_66 : decode cX0_next 66 = .ok (.goto 65, 3) := dk_167 0 65 (dk_at dksX0_next_2 19 rfl rfl)
theorem dX0_next_69 : decode cX0_next 69 = .ok (.iload_n 1, 1) := dk_27 (dk_at dksX0_next_2 22 rfl rfl)
theorem dX0_next_70 : decode cX0_next 70 = .ok (.invokestatic 165, 3) := dk_184 0 165 (dk_at dksX0_next_3 0 rfl rfl)
theorem dX0_next_73 : decode cX0_next 73 = .ok (.ifCond .eq 10, 3) := dk_153 0 10 (dk_at dksX0_next_3 3 rfl rfl)
theorem dX0_next_76 : decode cX0_next 76 = .ok (.aload_n 0, 1) := dk_42 (dk_at dksX0_next_3 6 rfl rfl)
theorem dX0_next_77 : decode cX0_next 77 = .ok (.invokevirtual 168, 3) := dk_182 0 168 (dk_at dksX0_next_3 7 rfl rfl)
theorem dX0_next_80 : decode cX0_next 80 = .ok (.goto 51, 3) := dk_167 0 51 (dk_at dksX0_next_3 10 rfl rfl)
theorem dX0_next_83 : decode cX0_next 83 = .ok (.iload_n 1, 1) := dk_27 (dk_at dksX0_next_3 13 rfl rfl)
theorem dX0_next_84 : decode cX0_next 84 = .ok (.invokestatic 172, 3) := dk_184 0 172 (dk_at dksX0_next_3 14 rfl rfl)
theorem dX0_next_87 : decode cX0_next 87 = .ok (.ifCond .eq 10, 3) := dk_153 0 10 (dk_at dksX0_next_3 17 rfl rfl)
theorem dX0_next_90 : decode cX0_next 90 = .ok (.aload_n 0, 1) := dk_42 (dk_at dksX0_next_3 20 rfl rfl)
theorem dX0_next_91 : decode cX0_next 91 = .ok (.invokevirtual 175, 3) := dk_182 0 175 (dk_at dksX0_next_3 21 rfl rfl)
theorem dX0_next_94 : decode cX0_next 94 = .ok (.goto 37, 3) := dk_167 0 37 (dk_at dksX0_next_4 0 rfl rfl)
theorem dX0_next_97 : decode cX0_next 97 = .ok (.aload_n 0, 1) := dk_42 (dk_at dksX0_next_4 3 rfl rfl)
theorem dX0_next_98 : decode cX0_next 98 = .ok (.iconst 4, 1) := dk_7 (dk_at dksX0_next_4 4 rfl rfl)
theorem dX0_next_99 : decode cX0_next 99 = .ok (.putfield 162, 3) := dk_181 0 162 (dk_at dksX0_next_4 5 rfl rfl)
theorem dX0_next_102 : decode cX0_next 102 = .ok (.aload_n 0, 1) := dk_42 (dk_at dksX0_next_4 8 rfl rfl)
theorem dX0_next_103 : decode cX0_next 103 = .ok (.iload_n 1, 1) := dk_27 (dk_at dksX0_next_4 9 rfl rfl)
theorem dX0_next_104 : decode cX0_next 104 = .ok (.putfield 178, 3) := dk_181 0 178 (dk_at dksX0_next_4 10 rfl rfl)
theorem dX0_next_107 : decode cX0_next 107 = .ok (.aload_n 0, 1) := dk_42 (dk_at dksX0_next_4 13 rfl rfl)
theorem dX0_next_108 : decode cX0_next 108 = .ok (.dup, 1) := dk_89 (dk_at dksX0_next_4 14 rfl rfl)
theorem dX0_next_109 : decode cX0_next 109 = .ok (.getfield 153, 3) := dk_180 0 153 (dk_at dksX0_next_4 15 rfl rfl)
theorem dX0_next_112 : decode cX0_next 112 = .ok (.iconst 1, 1) := dk_4 (dk_at dksX0_next_4 18 rfl rfl)
theorem dX0_next_113 : decode cX0_next 113 = .ok (.iadd, 1) := dk_96 (dk_at dksX0_next_4 19 rfl rfl)
theorem dX0_next_114 : decode cX0_next 114 = .ok (.putfield 153, 3) := dk_181 0 153 (dk_at dksX0_next_4 20 rfl rfl)
theorem dX0_next_117 : decode cX0_next 117 = .ok (.ldc 181, 2) := dk_18 181 (dk_at dksX0_next_5 0 rfl rfl)
theorem dX0_next_119 : decode cX0_next 119 = .ok (.iload_n 1, 1) := dk_27 (dk_at dksX0_next_5 2 rfl rfl)
theorem dX0_next_120 : decode cX0_next 120 = .ok (.invokevirtual 183, 3) := dk_182 0 183 (dk_at dksX0_next_5 3 rfl rfl)
theorem dX0_next_123 : decode cX0_next 123 = .ok (.ifCond .ge 8, 3) := dk_156 0 8 (dk_at dksX0_next_5 6 rfl rfl)
theorem dX0_next_126 : decode cX0_next 126 = .ok (.aload_n 0, 1) := dk_42 (dk_at dksX0_next_5 9 rfl rfl)
theorem dX0_next_127 : decode cX0_next 127 = .ok (.getfield 188, 3) := dk_180 0 188 (dk_at dksX0_next_5 10 rfl rfl)
theorem dX0_next_130 : decode cX0_next 130 = .ok (.athrow, 1) := dk_191 (dk_at dksX0_next_5 13 rfl rfl)
theorem dX0_next_131 : decode cX0_next 131 = .ok (.return_, 1) := dk_177 (dk_at dksX0_next_5 14 rfl rfl)
abbrev cX0_byteAt : ByteArray := prog_1_method_20_code
def yX0_byteAt : MethodName := ⟨RX0, "byteAt", "(I)I"⟩
def dkwX0_byteAt_0 : List UInt8 := [27, 42, 180, 0, 138, 162, 0, 16, 42, 180, 0, 141, 27, 51, 17, 0, 255, 126, 167, 0, 4, 2, 172]
abbrev dktX0_byteAt_0 : List UInt8 := dkwX0_byteAt_0 ++ []
theorem dksX0_byteAt_0 : cX0_byteAt.data.toList.drop 0 = dktX0_byteAt_0 := by decide +kernel
theorem dX0_byteAt_0 : decode cX0_byteAt 0 = .ok (.iload_n 1, 1) := dk_27 (dk_at dksX0_byteAt_0 0 rfl rfl)
theorem dX0_byteAt_1 : decode cX0_byteAt 1 = .ok (.aload_n 0, 1) := dk_42 (dk_at dksX0_byteAt_0 1 rfl rfl)
theorem dX0_byteAt_2 : decode cX0_byteAt 2 = .ok (.getfield 138, 3) := dk_180 0 138 (dk_at dksX0_byteAt_0 2 rfl rfl)
theorem dX0_byteAt_5 : decode cX0_byteAt 5 = .ok (.if_icmp .ge 16, 3) := dk_162 0 16 (dk_at dksX0_byteAt_0 5 rfl rfl)
theorem dX0_byteAt_8 : decode cX0_byteAt 8 = .ok (.aload_n 0, 1) := dk_42 (dk_at dksX0_byteAt_0 8 rfl rfl)
theorem dX0_byteAt_9 : decode cX0_byteAt 9 = .ok (.getfield 141, 3) := dk_180 0 141 (dk_at dksX0_byteAt_0 9 rfl rfl)
theorem dX0_byteAt_12 : decode cX0_byteAt 12 = .ok (.iload_n 1, 1) := dk_27 (dk_at dksX0_byteAt_0 12 rfl rfl)
theorem dX0_byteAt_13 : decode cX0_byteAt 13 = .ok (.baload, 1) := dk_51 (dk_at dksX0_byteAt_0 13 rfl rfl)
theorem dX0_byteAt_14 : decode cX0_byteAt 14 = .ok (.sipush 255, 3) := dk_17 0 255 (dk_at dksX0_byteAt_0 14 rfl rfl)
theorem dX0_byteAt_17 : decode cX0_byteAt 17 = .ok (.iand, 1) := dk_126 (dk_at dksX0_byteAt_0 17 rfl rfl)
theorem dX0_byteAt_18 : decode cX0_byteAt 18 = .ok (.goto 4, 3) := dk_167 0 4 (dk_at dksX0_byteAt_0 18 rfl rfl)
theorem dX0_byteAt_21 : decode cX0_byteAt 21 = .ok (.iconst (-1), 1) := dk_2 (dk_at dksX0_byteAt_0 21 rfl rfl)
theorem dX0_byteAt_22 : decode cX0_byteAt 22 = .ok (.ireturn, 1) := dk_172 (dk_at dksX0_byteAt_0 22 rfl rfl)
abbrev cX0_isLetter : ByteArray := prog_1_method_21_code
def yX0_isLetter : MethodName := ⟨RX0, "isLetter", "(I)Z"⟩
def dkwX0_isLetter_0 : List UInt8 := [26, 133, 20, 0, 145, 20, 0, 147, 184, 0, 14, 172]
abbrev dktX0_isLetter_0 : List UInt8 := dkwX0_isLetter_0 ++ []
theorem dksX0_isLetter_0 : cX0_isLetter.data.toList.drop 0 = dktX0_isLetter_0 := by decide +kernel
theorem dX0_isLetter_0 : decode cX0_isLetter 0 = .ok (.iload_n 0, 1) := dk_26 (dk_at dksX0_isLetter_0 0 rfl rfl)
theorem dX0_isLetter_1 : decode cX0_isLetter 1 = .ok (.i2l, 1) := dk_133 (dk_at dksX0_isLetter_0 1 rfl rfl)
theorem dX0_isLetter_2 : decode cX0_isLetter 2 = .ok (.ldc2_w 145, 3) := dk_20 0 145 (dk_at dksX0_isLetter_0 2 rfl rfl)
theorem dX0_isLetter_5 : decode cX0_isLetter 5 = .ok (.ldc2_w 147, 3) := dk_20 0 147 (dk_at dksX0_isLetter_0 5 rfl rfl)
theorem dX0_isLetter_8 : decode cX0_isLetter 8 = .ok (.invokestatic 14, 3) := dk_184 0 14 (dk_at dksX0_isLetter_0 8 rfl rfl)
theorem dX0_isLetter_11 : decode cX0_isLetter 11 = .ok (.ireturn, 1) := dk_172 (dk_at dksX0_isLetter_0 11 rfl rfl)
abbrev cX0_word : ByteArray := prog_1_method_25_code
def yX0_word : MethodName := ⟨RX0, "word", "()V"⟩
def dkwX0_word_3 : List UInt8 := [42, 180, 0, 178, 2, 160, 0, 8, 42, 180, 0, 188, 191, 177]
abbrev dktX0_word_3 : List UInt8 := dkwX0_word_3 ++ []
def dkwX0_word_2 : List UInt8 := [181, 0, 162, 42, 27, 2, 160, 0, 14, 42, 42, 180, 0, 206, 182, 0, 202, 167, 0, 4, 27, 181, 0, 178]
abbrev dktX0_word_2 : List UInt8 := dkwX0_word_2 ++ dktX0_word_3
def dkwX0_word_1 : List UInt8 := [167, 255, 232, 42, 42, 180, 0, 198, 182, 0, 202, 60, 42, 27, 2, 160, 0, 7, 5, 167, 0, 4, 4]
abbrev dktX0_word_1 : List UInt8 := dkwX0_word_1 ++ dktX0_word_2
def dkwX0_word_0 : List UInt8 := [42, 42, 180, 0, 153, 182, 0, 156, 184, 0, 165, 153, 0, 16, 42, 89, 180, 0, 153, 4, 96, 181, 0, 153]
abbrev dktX0_word_0 : List UInt8 := dkwX0_word_0 ++ dktX0_word_1
theorem dksX0_word_0 : cX0_word.data.toList.drop 0 = dktX0_word_0 := by decide +kernel
theorem dksX0_word_1 : cX0_word.data.toList.drop 24 = dktX0_word_1 := dk_seg dksX0_word_0 24 rfl rfl
theorem dksX0_word_2 : cX0_word.data.toList.drop 47 = dktX0_word_2 := dk_seg dksX0_word_1 23 rfl rfl
theorem dksX0_word_3 : cX0_word.data.toList.drop 71 = dktX0_word_3 := dk_seg dksX0_word_2 24 rfl rfl
theorem dX0_word_0 : decode cX0_word 0 = .ok (.aload_n 0, 1) := dk_42 (dk_at dksX0_word_0 0 rfl rfl)
theorem dX0_word_1 : decode cX0_word 1 = .ok (.aload_n 0, 1) := dk_42 (dk_at dksX0_word_0 1 rfl rfl)
theorem dX0_word_2 : decode cX0_word 2 = .ok (.getfield 153, 3) := dk_180 0 153 (dk_at dksX0_word_0 2 rfl rfl)
theorem dX0_word_5 : decode cX0_word 5 = .ok (.invokevirtual 156, 3) := dk_182 0 156 (dk_at dksX0_word_0 5 rfl rfl)
theorem dX0_word_8 : decode cX0_word 8 = .ok (.invokestatic 165, 3) := dk_184 0 165 (dk_at dksX0_word_0 8 rfl rfl)
theorem dX0_word_11 : decode cX0_word 11 = .ok (.ifCond .eq 16, 3) := dk_153 0 16 (dk_at dksX0_word_0 11 rfl rfl)
theorem dX0_word_14 : decode cX0_word 14 = .ok (.aload_n 0, 1) := dk_42 (dk_at dksX0_word_0 14 rfl rfl)
theorem dX0_word_15 : decode cX0_word 15 = .ok (.dup, 1) := dk_89 (dk_at dksX0_word_0 15 rfl rfl)
theorem dX0_word_16 : decode cX0_word 16 = .ok (.getfield 153, 3) := dk_180 0 153 (dk_at dksX0_word_0 16 rfl rfl)
theorem dX0_word_19 : decode cX0_word 19 = .ok (.iconst 1, 1) := dk_4 (dk_at dksX0_word_0 19 rfl rfl)
theorem dX0_word_20 : decode cX0_word 20 = .ok (.iadd, 1) := dk_96 (dk_at dksX0_word_0 20 rfl rfl)
theorem dX0_word_21 : decode cX0_word 21 = .ok (.putfield 153, 3) := dk_181 0 153 (dk_at dksX0_word_0 21 rfl rfl)
theorem dX0_word_24 : decode cX0_word 24 = .ok (.goto (-24), 3) := dk_167 255 232 (dk_at dksX0_word_1 0 rfl rfl)
theorem dX0_word_27 : decode cX0_word 27 = .ok (.aload_n 0, 1) := dk_42 (dk_at dksX0_word_1 3 rfl rfl)
theorem dX0_word_28 : decode cX0_word 28 = .ok (.aload_n 0, 1) := dk_42 (dk_at dksX0_word_1 4 rfl rfl)
theorem dX0_word_29 : decode cX0_word 29 = .ok (.getfield 198, 3) := dk_180 0 198 (dk_at dksX0_word_1 5 rfl rfl)
theorem dX0_word_32 : decode cX0_word 32 = .ok (.invokevirtual 202, 3) := dk_182 0 202 (dk_at dksX0_word_1 8 rfl rfl)
theorem dX0_word_35 : decode cX0_word 35 = .ok (.istore_n 1, 1) := dk_60 (dk_at dksX0_word_1 11 rfl rfl)
theorem dX0_word_36 : decode cX0_word 36 = .ok (.aload_n 0, 1) := dk_42 (dk_at dksX0_word_1 12 rfl rfl)
theorem dX0_word_37 : decode cX0_word 37 = .ok (.iload_n 1, 1) := dk_27 (dk_at dksX0_word_1 13 rfl rfl)
theorem dX0_word_38 : decode cX0_word 38 = .ok (.iconst (-1), 1) := dk_2 (dk_at dksX0_word_1 14 rfl rfl)
theorem dX0_word_39 : decode cX0_word 39 = .ok (.if_icmp .ne 7, 3) := dk_160 0 7 (dk_at dksX0_word_1 15 rfl rfl)
theorem dX0_word_42 : decode cX0_word 42 = .ok (.iconst 2, 1) := dk_5 (dk_at dksX0_word_1 18 rfl rfl)
theorem dX0_word_43 : decode cX0_word 43 = .ok (.goto 4, 3) := dk_167 0 4 (dk_at dksX0_word_1 19 rfl rfl)
theorem dX0_word_46 : decode cX0_word 46 = .ok (.iconst 1, 1) := dk_4 (dk_at dksX0_word_1 22 rfl rfl)
theorem dX0_word_47 : decode cX0_word 47 = .ok (.putfield 162, 3) := dk_181 0 162 (dk_at dksX0_word_2 0 rfl rfl)
theorem dX0_word_50 : decode cX0_word 50 = .ok (.aload_n 0, 1) := dk_42 (dk_at dksX0_word_2 3 rfl rfl)
theorem dX0_word_51 : decode cX0_word 51 = .ok (.iload_n 1, 1) := dk_27 (dk_at dksX0_word_2 4 rfl rfl)
theorem dX0_word_52 : decode cX0_word 52 = .ok (.iconst (-1), 1) := dk_2 (dk_at dksX0_word_2 5 rfl rfl)
theorem dX0_word_53 : decode cX0_word 53 = .ok (.if_icmp .ne 14, 3) := dk_160 0 14 (dk_at dksX0_word_2 6 rfl rfl)
theorem dX0_word_56 : decode cX0_word 56 = .ok (.aload_n 0, 1) := dk_42 (dk_at dksX0_word_2 9 rfl rfl)
theorem dX0_word_57 : decode cX0_word 57 = .ok (.aload_n 0, 1) := dk_42 (dk_at dksX0_word_2 10 rfl rfl)
theorem dX0_word_58 : decode cX0_word 58 = .ok (.getfield 206, 3) := dk_180 0 206 (dk_at dksX0_word_2 11 rfl rfl)
theorem dX0_word_61 : decode cX0_word 61 = .ok (.invokevirtual 202, 3) := dk_182 0 202 (dk_at dksX0_word_2 14 rfl rfl)
theorem dX0_word_64 : decode cX0_word 64 = .ok (.goto 4, 3) := dk_167 0 4 (dk_at dksX0_word_2 17 rfl rfl)
theorem dX0_word_67 : decode cX0_word 67 = .ok (.iload_n 1, 1) := dk_27 (dk_at dksX0_word_2 20 rfl rfl)
theorem dX0_word_68 : decode cX0_word 68 = .ok (.putfield 178, 3) := dk_181 0 178 (dk_at dksX0_word_2 21 rfl rfl)
theorem dX0_word_71 : decode cX0_word 71 = .ok (.aload_n 0, 1) := dk_42 (dk_at dksX0_word_3 0 rfl rfl)
theorem dX0_word_72 : decode cX0_word 72 = .ok (.getfield 178, 3) := dk_180 0 178 (dk_at dksX0_word_3 1 rfl rfl)
theorem dX0_word_75 : decode cX0_word 75 = .ok (.iconst (-1), 1) := dk_2 (dk_at dksX0_word_3 4 rfl rfl)
theorem dX0_word_76 : decode cX0_word 76 = .ok (.if_icmp .ne 8, 3) := dk_160 0 8 (dk_at dksX0_word_3 5 rfl rfl)
theorem dX0_word_79 : decode cX0_word 79 = .ok (.aload_n 0, 1) := dk_42 (dk_at dksX0_word_3 8 rfl rfl)
theorem dX0_word_80 : decode cX0_word 80 = .ok (.getfield 188, 3) := dk_180 0 188 (dk_at dksX0_word_3 9 rfl rfl)
theorem dX0_word_83 : decode cX0_word 83 = .ok (.athrow, 1) := dk_191 (dk_at dksX0_word_3 12 rfl rfl)
theorem dX0_word_84 : decode cX0_word 84 = .ok (.return_, 1) := dk_177 (dk_at dksX0_word_3 13 rfl rfl)
abbrev cX0_placeIn : ByteArray := prog_1_method_24_code
def yX0_placeIn : MethodName := ⟨RX0, "placeIn", "([Ljava/lang/String;)I"⟩
def dkwX0_placeIn_4 : List UInt8 := [132, 2, 1, 167, 255, 162, 2, 172]
abbrev dktX0_placeIn_4 : List UInt8 := dkwX0_placeIn_4 ++ []
def dkwX0_placeIn_3 : List UInt8 := [182, 0, 156, 160, 0, 7, 4, 167, 0, 4, 3, 62, 132, 4, 1, 167, 255, 207, 29, 153, 0, 5, 28, 172]
abbrev dktX0_placeIn_3 : List UInt8 := dkwX0_placeIn_3 ++ dktX0_placeIn_4
def dkwX0_placeIn_2 : List UInt8 := [180, 0, 159, 100, 162, 0, 37, 43, 28, 50, 21, 4, 182, 0, 194, 42, 42, 180, 0, 159, 21, 4, 96]
abbrev dktX0_placeIn_2 : List UInt8 := dkwX0_placeIn_2 ++ dktX0_placeIn_3
def dkwX0_placeIn_1 : List UInt8 := [160, 0, 7, 4, 167, 0, 4, 3, 62, 3, 54, 4, 29, 153, 0, 51, 21, 4, 42, 180, 0, 153, 42]
abbrev dktX0_placeIn_1 : List UInt8 := dkwX0_placeIn_1 ++ dktX0_placeIn_2
def dkwX0_placeIn_0 : List UInt8 := [3, 61, 28, 43, 190, 162, 0, 94, 43, 28, 50, 182, 0, 192, 42, 180, 0, 153, 42, 180, 0, 159, 100]
abbrev dktX0_placeIn_0 : List UInt8 := dkwX0_placeIn_0 ++ dktX0_placeIn_1
theorem dksX0_placeIn_0 : cX0_placeIn.data.toList.drop 0 = dktX0_placeIn_0 := by decide +kernel
theorem dksX0_placeIn_1 : cX0_placeIn.data.toList.drop 23 = dktX0_placeIn_1 := dk_seg dksX0_placeIn_0 23 rfl rfl
theorem dksX0_placeIn_2 : cX0_placeIn.data.toList.drop 46 = dktX0_placeIn_2 := dk_seg dksX0_placeIn_1 23 rfl rfl
theorem dksX0_placeIn_3 : cX0_placeIn.data.toList.drop 69 = dktX0_placeIn_3 := dk_seg dksX0_placeIn_2 23 rfl rfl
theorem dksX0_placeIn_4 : cX0_placeIn.data.toList.drop 93 = dktX0_placeIn_4 := dk_seg dksX0_placeIn_3 24 rfl rfl
theorem dX0_placeIn_0 : decode cX0_placeIn 0 = .ok (.iconst 0, 1) := dk_3 (dk_at dksX0_placeIn_0 0 rfl rfl)
theorem dX0_placeIn_1 : decode cX0_placeIn 1 = .ok (.istore_n 2, 1) := dk_61 (dk_at dksX0_placeIn_0 1 rfl rfl)
theorem dX0_placeIn_2 : decode cX0_placeIn 2 = .ok (.iload_n 2, 1) := dk_28 (dk_at dksX0_placeIn_0 2 rfl rfl)
theorem dX0_placeIn_3 : decode cX0_placeIn 3 = .ok (.aload_n 1, 1) := dk_43 (dk_at dksX0_placeIn_0 3 rfl rfl)
theorem dX0_placeIn_4 : decode cX0_placeIn 4 = .ok (.arraylength, 1) := dk_190 (dk_at dksX0_placeIn_0 4 rfl rfl)
theorem dX0_placeIn_5 : decode cX0_placeIn 5 = .ok (.if_icmp .ge 94, 3) := dk_162 0 94 (dk_at dksX0_placeIn_0 5 rfl rfl)
theorem dX0_placeIn_8 : decode cX0_placeIn 8 = .ok (.aload_n 1, 1) := dk_43 (dk_at dksX0_placeIn_0 8 rfl rfl)
theorem dX0_placeIn_9 : decode cX0_placeIn 9 = .ok (.iload_n 2, 1) := dk_28 (dk_at dksX0_placeIn_0 9 rfl rfl)
theorem dX0_placeIn_10 : decode cX0_placeIn 10 = .ok (.aaload, 1) := dk_50 (dk_at dksX0_placeIn_0 10 rfl rfl)
theorem dX0_placeIn_11 : decode cX0_placeIn 11 = .ok (.invokevirtual 192, 3) := dk_182 0 192 (dk_at dksX0_placeIn_0 11 rfl rfl)
theorem dX0_placeIn_14 : decode cX0_placeIn 14 = .ok (.aload_n 0, 1) := dk_42 (dk_at dksX0_placeIn_0 14 rfl rfl)
theorem dX0_placeIn_15 : decode cX0_placeIn 15 = .ok (.getfield 153, 3) := dk_180 0 153 (dk_at dksX0_placeIn_0 15 rfl rfl)
theorem dX0_placeIn_18 : decode cX0_placeIn 18 = .ok (.aload_n 0, 1) := dk_42 (dk_at dksX0_placeIn_0 18 rfl rfl)
theorem dX0_placeIn_19 : decode cX0_placeIn 19 = .ok (.getfield 159, 3) := dk_180 0 159 (dk_at dksX0_placeIn_0 19 rfl rfl)
theorem dX0_placeIn_22 : decode cX0_placeIn 22 = .ok (.isub, 1) := dk_100 (dk_at dksX0_placeIn_0 22 rfl rfl)
theorem dX0_placeIn_23 : decode cX0_placeIn 23 = .ok (.if_icmp .ne 7, 3) := dk_160 0 7 (dk_at dksX0_placeIn_1 0 rfl rfl)
theorem dX0_placeIn_26 : decode cX0_placeIn 26 = .ok (.iconst 1, 1) := dk_4 (dk_at dksX0_placeIn_1 3 rfl rfl)
theorem dX0_placeIn_27 : decode cX0_placeIn 27 = .ok (.goto 4, 3) := dk_167 0 4 (dk_at dksX0_placeIn_1 4 rfl rfl)
theorem dX0_placeIn_30 : decode cX0_placeIn 30 = .ok (.iconst 0, 1) := dk_3 (dk_at dksX0_placeIn_1 7 rfl rfl)
theorem dX0_placeIn_31 : decode cX0_placeIn 31 = .ok (.istore_n 3, 1) := dk_62 (dk_at dksX0_placeIn_1 8 rfl rfl)
theorem dX0_placeIn_32 : decode cX0_placeIn 32 = .ok (.iconst 0, 1) := dk_3 (dk_at dksX0_placeIn_1 9 rfl rfl)
theorem dX0_placeIn_33 : decode cX0_placeIn 33 = .ok (.istore 4, 2) := dk_54 4 (dk_at dksX0_placeIn_1 10 rfl rfl)
theorem dX0_placeIn_35 : decode cX0_placeIn 35 = .ok (.iload_n 3, 1) := dk_29 (dk_at dksX0_placeIn_1 12 rfl rfl)
theorem dX0_placeIn_36 : decode cX0_placeIn 36 = .ok (.ifCond .eq 51, 3) := dk_153 0 51 (dk_at dksX0_placeIn_1 13 rfl rfl)
theorem dX0_placeIn_39 : decode cX0_placeIn 39 = .ok (.iload 4, 2) := dk_21 4 (dk_at dksX0_placeIn_1 16 rfl rfl)
theorem dX0_placeIn_41 : decode cX0_placeIn 41 = .ok (.aload_n 0, 1) := dk_42 (dk_at dksX0_placeIn_1 18 rfl rfl)
theorem dX0_placeIn_42 : decode cX0_placeIn 42 = .ok (.getfield 153, 3) := dk_180 0 153 (dk_at dksX0_placeIn_1 19 rfl rfl)
theorem dX0_placeIn_45 : decode cX0_placeIn 45 = .ok (.aload_n 0, 1) := dk_42 (dk_at dksX0_placeIn_1 22 rfl rfl)
theorem dX0_placeIn_46 : decode cX0_placeIn 46 = .ok (.getfield 159, 3) := dk_180 0 159 (dk_at dksX0_placeIn_2 0 rfl rfl)
theorem dX0_placeIn_49 : decode cX0_placeIn 49 = .ok (.isub, 1) := dk_100 (dk_at dksX0_placeIn_2 3 rfl rfl)
theorem dX0_placeIn_50 : decode cX0_placeIn 50 = .ok (.if_icmp .ge 37, 3) := dk_162 0 37 (dk_at dksX0_placeIn_2 4 rfl rfl)
theorem dX0_placeIn_53 : decode cX0_placeIn 53 = .ok (.aload_n 1, 1) := dk_43 (dk_at dksX0_placeIn_2 7 rfl rfl)
theorem dX0_placeIn_54 : decode cX0_placeIn 54 = .ok (.iload_n 2, 1) := dk_28 (dk_at dksX0_placeIn_2 8 rfl rfl)
theorem dX0_placeIn_55 : decode cX0_placeIn 55 = .ok (.aaload, 1) := dk_50 (dk_at dksX0_placeIn_2 9 rfl rfl)
theorem dX0_placeIn_56 : decode cX0_placeIn 56 = .ok (.iload 4, 2) := dk_21 4 (dk_at dksX0_placeIn_2 10 rfl rfl)
theorem dX0_placeIn_58 : decode cX0_placeIn 58 = .ok (.invokevirtual 194, 3) := dk_182 0 194 (dk_at dksX0_placeIn_2 12 rfl rfl)
theorem dX0_placeIn_61 : decode cX0_placeIn 61 = .ok (.aload_n 0, 1) := dk_42 (dk_at dksX0_placeIn_2 15 rfl rfl)
theorem dX0_placeIn_62 : decode cX0_placeIn 62 = .ok (.aload_n 0, 1) := dk_42 (dk_at dksX0_placeIn_2 16 rfl rfl)
theorem dX0_placeIn_63 : decode cX0_placeIn 63 = .ok (.getfield 159, 3) := dk_180 0 159 (dk_at dksX0_placeIn_2 17 rfl rfl)
theorem dX0_placeIn_66 : decode cX0_placeIn 66 = .ok (.iload 4, 2) := dk_21 4 (dk_at dksX0_placeIn_2 20 rfl rfl)
theorem dX0_placeIn_68 : decode cX0_placeIn 68 = .ok (.iadd, 1) := dk_96 (dk_at dksX0_placeIn_2 22 rfl rfl)
theorem dX0_placeIn_69 : decode cX0_placeIn 69 = .ok (.invokevirtual 156, 3) := dk_182 0 156 (dk_at dksX0_placeIn_3 0 rfl rfl)
theorem dX0_placeIn_72 : decode cX0_placeIn 72 = .ok (.if_icmp .ne 7, 3) := dk_160 0 7 (dk_at dksX0_placeIn_3 3 rfl rfl)
theorem dX0_placeIn_75 : decode cX0_placeIn 75 = .ok (.iconst 1, 1) := dk_4 (dk_at dksX0_placeIn_3 6 rfl rfl)
theorem dX0_placeIn_76 : decode cX0_placeIn 76 = .ok (.goto 4, 3) := dk_167 0 4 (dk_at dksX0_placeIn_3 7 rfl rfl)
theorem dX0_placeIn_79 : decode cX0_placeIn 79 = .ok (.iconst 0, 1) := dk_3 (dk_at dksX0_placeIn_3 10 rfl rfl)
theorem dX0_placeIn_80 : decode cX0_placeIn 80 = .ok (.istore_n 3, 1) := dk_62 (dk_at dksX0_placeIn_3 11 rfl rfl)
theorem dX0_placeIn_81 : decode cX0_placeIn 81 = .ok (.iinc 4 1, 3) := dk_132 4 1 (dk_at dksX0_placeIn_3 12 rfl rfl)
theorem dX0_placeIn_84 : decode cX0_placeIn 84 = .ok (.goto (-49), 3) := dk_167 255 207 (dk_at dksX0_placeIn_3 15 rfl rfl)
theorem dX0_placeIn_87 : decode cX0_placeIn 87 = .ok (.iload_n 3, 1) := dk_29 (dk_at dksX0_placeIn_3 18 rfl rfl)
theorem dX0_placeIn_88 : decode cX0_placeIn 88 = .ok (.ifCond .eq 5, 3) := dk_153 0 5 (dk_at dksX0_placeIn_3 19 rfl rfl)
theorem dX0_placeIn_91 : decode cX0_placeIn 91 = .ok (.iload_n 2, 1) := dk_28 (dk_at dksX0_placeIn_3 22 rfl rfl)
theorem dX0_placeIn_92 : decode cX0_placeIn 92 = .ok (.ireturn, 1) := dk_172 (dk_at dksX0_placeIn_3 23 rfl rfl)
theorem dX0_placeIn_93 : decode cX0_placeIn 93 = .ok (.iinc 2 1, 3) := dk_132 2 1 (dk_at dksX0_placeIn_4 0 rfl rfl)
theorem dX0_placeIn_96 : decode cX0_placeIn 96 = .ok (.goto (-94), 3) := dk_167 255 162 (dk_at dksX0_placeIn_4 3 rfl rfl)
theorem dX0_placeIn_99 : decode cX0_placeIn 99 = .ok (.iconst (-1), 1) := dk_2 (dk_at dksX0_placeIn_4 6 rfl rfl)
theorem dX0_placeIn_100 : decode cX0_placeIn 100 = .ok (.ireturn, 1) := dk_172 (dk_at dksX0_placeIn_4 7 rfl rfl)
abbrev cX0_isDigit : ByteArray := prog_1_method_22_code
def yX0_isDigit : MethodName := ⟨RX0, "isDigit", "(I)Z"⟩
def dkwX0_isDigit_0 : List UInt8 := [26, 133, 20, 0, 149, 20, 0, 151, 184, 0, 14, 172]
abbrev dktX0_isDigit_0 : List UInt8 := dkwX0_isDigit_0 ++ []
theorem dksX0_isDigit_0 : cX0_isDigit.data.toList.drop 0 = dktX0_isDigit_0 := by decide +kernel
theorem dX0_isDigit_0 : decode cX0_isDigit 0 = .ok (.iload_n 0, 1) := dk_26 (dk_at dksX0_isDigit_0 0 rfl rfl)
theorem dX0_isDigit_1 : decode cX0_isDigit 1 = .ok (.i2l, 1) := dk_133 (dk_at dksX0_isDigit_0 1 rfl rfl)
theorem dX0_isDigit_2 : decode cX0_isDigit 2 = .ok (.ldc2_w 149, 3) := dk_20 0 149 (dk_at dksX0_isDigit_0 2 rfl rfl)
theorem dX0_isDigit_5 : decode cX0_isDigit 5 = .ok (.ldc2_w 151, 3) := dk_20 0 151 (dk_at dksX0_isDigit_0 5 rfl rfl)
theorem dX0_isDigit_8 : decode cX0_isDigit 8 = .ok (.invokestatic 14, 3) := dk_184 0 14 (dk_at dksX0_isDigit_0 8 rfl rfl)
theorem dX0_isDigit_11 : decode cX0_isDigit 11 = .ok (.ireturn, 1) := dk_172 (dk_at dksX0_isDigit_0 11 rfl rfl)
abbrev cX0_digits : ByteArray := prog_1_method_26_code
def yX0_digits : MethodName := ⟨RX0, "digits", "()V"⟩
def dkwX0_digits_4 : List UInt8 := [180, 0, 188, 191, 177]
abbrev dktX0_digits_4 : List UInt8 := dkwX0_digits_4 ++ []
def dkwX0_digits_3 : List UInt8 := [167, 255, 189, 42, 6, 181, 0, 162, 42, 180, 0, 153, 42, 180, 0, 159, 100, 7, 164, 0, 8, 42]
abbrev dktX0_digits_3 : List UInt8 := dkwX0_digits_3 ++ dktX0_digits_4
def dkwX0_digits_2 : List UInt8 := [96, 16, 48, 100, 167, 0, 7, 42, 180, 0, 178, 181, 0, 178, 42, 89, 180, 0, 153, 4, 96, 181, 0, 153]
abbrev dktX0_digits_2 : List UInt8 := dkwX0_digits_2 ++ dktX0_digits_3
def dkwX0_digits_1 : List UInt8 := [42, 180, 0, 159, 100, 7, 162, 0, 25, 16, 10, 42, 180, 0, 178, 104, 42, 42, 180, 0, 153, 182, 0, 156]
abbrev dktX0_digits_1 : List UInt8 := dkwX0_digits_1 ++ dktX0_digits_2
def dkwX0_digits_0 : List UInt8 := [42, 3, 181, 0, 178, 42, 42, 180, 0, 153, 182, 0, 156, 184, 0, 172, 153, 0, 59, 42, 42, 180, 0, 153]
abbrev dktX0_digits_0 : List UInt8 := dkwX0_digits_0 ++ dktX0_digits_1
theorem dksX0_digits_0 : cX0_digits.data.toList.drop 0 = dktX0_digits_0 := by decide +kernel
theorem dksX0_digits_1 : cX0_digits.data.toList.drop 24 = dktX0_digits_1 := dk_seg dksX0_digits_0 24 rfl rfl
theorem dksX0_digits_2 : cX0_digits.data.toList.drop 48 = dktX0_digits_2 := dk_seg dksX0_digits_1 24 rfl rfl
theorem dksX0_digits_3 : cX0_digits.data.toList.drop 72 = dktX0_digits_3 := dk_seg dksX0_digits_2 24 rfl rfl
theorem dksX0_digits_4 : cX0_digits.data.toList.drop 94 = dktX0_digits_4 := dk_seg dksX0_digits_3 22 rfl rfl
theorem dX0_digits_0 : decode cX0_digits 0 = .ok (.aload_n 0, 1) := dk_42 (dk_at dksX0_digits_0 0 rfl rfl)
theorem dX0_digits_1 : decode cX0_digits 1 = .ok (.iconst 0, 1) := dk_3 (dk_at dksX0_digits_0 1 rfl rfl)
theorem dX0_digits_2 : decode cX0_digits 2 = .ok (.putfield 178, 3) := dk_181 0 178 (dk_at dksX0_digits_0 2 rfl rfl)
theorem dX0_digits_5 : decode cX0_digits 5 = .ok (.aload_n 0, 1) := dk_42 (dk_at dksX0_digits_0 5 rfl rfl)
theorem dX0_digits_6 : decode cX0_digits 6 = .ok (.aload_n 0, 1) := dk_42 (dk_at dksX0_digits_0 6 rfl rfl)
theorem dX0_digits_7 : decode cX0_digits 7 = .ok (.getfield 153, 3) := dk_180 0 153 (dk_at dksX0_digits_0 7 rfl rfl)
theorem dX0_digits_10 : decode cX0_digits 10 = .ok (.invokevirtual 156, 3) := dk_182 0 156 (dk_at dksX0_digits_0 10 rfl rfl)
theorem dX0_digits_13 : decode cX0_digits 13 = .ok (.invokestatic 172, 3) := dk_184 0 172 (dk_at dksX0_digits_0 13 rfl rfl)
theorem dX0_digits_16 : decode cX0_digits 16 = .ok (.ifCond .eq 59, 3) := dk_153 0 59 (dk_at dksX0_digits_0 16 rfl rfl)
theorem dX0_digits_19 : decode cX0_digits 19 = .ok (.aload_n 0, 1) := dk_42 (dk_at dksX0_digits_0 19 rfl rfl)
theorem dX0_digits_20 : decode cX0_digits 20 = .ok (.aload_n 0, 1) := dk_42 (dk_at dksX0_digits_0 20 rfl rfl)
theorem dX0_digits_21 : decode cX0_digits 21 = .ok (.getfield 153, 3) := dk_180 0 153 (dk_at dksX0_digits_0 21 rfl rfl)
theorem dX0_digits_24 : decode cX0_digits 24 = .ok (.aload_n 0, 1) := dk_42 (dk_at dksX0_digits_1 0 rfl rfl)
theorem dX0_digits_25 : decode cX0_digits 25 = .ok (.getfield 159, 3) := dk_180 0 159 (dk_at dksX0_digits_1 1 rfl rfl)
theorem dX0_digits_28 : decode cX0_digits 28 = .ok (.isub, 1) := dk_100 (dk_at dksX0_digits_1 4 rfl rfl)
theorem dX0_digits_29 : decode cX0_digits 29 = .ok (.iconst 4, 1) := dk_7 (dk_at dksX0_digits_1 5 rfl rfl)
theorem dX0_digits_30 : decode cX0_digits 30 = .ok (.if_icmp .ge 25, 3) := dk_162 0 25 (dk_at dksX0_digits_1 6 rfl rfl)
theorem dX0_digits_33 : decode cX0_digits 33 = .ok (.bipush 10, 2) := dk_16 10 (dk_at dksX0_digits_1 9 rfl rfl)
theorem dX0_digits_35 : decode cX0_digits 35 = .ok (.aload_n 0, 1) := dk_42 (dk_at dksX0_digits_1 11 rfl rfl)
theorem dX0_digits_36 : decode cX0_digits 36 = .ok (.getfield 178, 3) := dk_180 0 178 (dk_at dksX0_digits_1 12 rfl rfl)
theorem dX0_digits_39 : decode cX0_digits 39 = .ok (.imul, 1) := dk_104 (dk_at dksX0_digits_1 15 rfl rfl)
theorem dX0_digits_40 : decode cX0_digits 40 = .ok (.aload_n 0, 1) := dk_42 (dk_at dksX0_digits_1 16 rfl rfl)
theorem dX0_digits_41 : decode cX0_digits 41 = .ok (.aload_n 0, 1) := dk_42 (dk_at dksX0_digits_1 17 rfl rfl)
theorem dX0_digits_42 : decode cX0_digits 42 = .ok (.getfield 153, 3) := dk_180 0 153 (dk_at dksX0_digits_1 18 rfl rfl)
theorem dX0_digits_45 : decode cX0_digits 45 = .ok (.invokevirtual 156, 3) := dk_182 0 156 (dk_at dksX0_digits_1 21 rfl rfl)
theorem dX0_digits_48 : decode cX0_digits 48 = .ok (.iadd, 1) := dk_96 (dk_at dksX0_digits_2 0 rfl rfl)
theorem dX0_digits_49 : decode cX0_digits 49 = .ok (.bipush 48, 2) := dk_16 48 (dk_at dksX0_digits_2 1 rfl rfl)
theorem dX0_digits_51 : decode cX0_digits 51 = .ok (.isub, 1) := dk_100 (dk_at dksX0_digits_2 3 rfl rfl)
theorem dX0_digits_52 : decode cX0_digits 52 = .ok (.goto 7, 3) := dk_167 0 7 (dk_at dksX0_digits_2 4 rfl rfl)
theorem dX0_digits_55 : decode cX0_digits 55 = .ok (.aload_n 0, 1) := dk_42 (dk_at dksX0_digits_2 7 rfl rfl)
theorem dX0_digits_56 : decode cX0_digits 56 = .ok (.getfield 178, 3) := dk_180 0 178 (dk_at dksX0_digits_2 8 rfl rfl)
theorem dX0_digits_59 : decode cX0_digits 59 = .ok (.putfield 178, 3) := dk_181 0 178 (dk_at dksX0_digits_2 11 rfl rfl)
theorem dX0_digits_62 : decode cX0_digits 62 = .ok (.aload_n 0, 1) := dk_42 (dk_at dksX0_digits_2 14 rfl rfl)
theorem dX0_digits_63 : decode cX0_digits 63 = .ok (.dup, 1) := dk_89 (dk_at dksX0_digits_2 15 rfl rfl)
theorem dX0_digits_64 : decode cX0_digits 64 = .ok (.getfield 153, 3) := dk_180 0 153 (dk_at dksX0_digits_2 16 rfl rfl)
theorem dX0_digits_67 : decode cX0_digits 67 = .ok (.iconst 1, 1) := dk_4 (dk_at dksX0_digits_2 19 rfl rfl)
theorem dX0_digits_68 : decode cX0_digits 68 = .ok (.iadd, 1) := dk_96 (dk_at dksX0_digits_2 20 rfl rfl)
theorem dX0_digits_69 : decode cX0_digits 69 = .ok (.putfield 153, 3) := dk_181 0 153 (dk_at dksX0_digits_2 21 rfl rfl)
theorem dX0_digits_72 : decode cX0_digits 72 = .ok (.goto (-67), 3) := dk_167 255 189 (dk_at dksX0_digits_3 0 rfl rfl)
theorem dX0_digits_75 : decode cX0_digits 75 = .ok (.aload_n 0, 1) := dk_42 (dk_at dksX0_digits_3 3 rfl rfl)
theorem dX0_digits_76 : decode cX0_digits 76 = .ok (.iconst 3, 1) := dk_6 (dk_at dksX0_digits_3 4 rfl rfl)
theorem dX0_digits_77 : decode cX0_digits 77 = .ok (.putfield 162, 3) := dk_181 0 162 (dk_at dksX0_digits_3 5 rfl rfl)
theorem dX0_digits_80 : decode cX0_digits 80 = .ok (.aload_n 0, 1) := dk_42 (dk_at dksX0_digits_3 8 rfl rfl)
theorem dX0_digits_81 : decode cX0_digits 81 = .ok (.getfield 153, 3) := dk_180 0 153 (dk_at dksX0_digits_3 9 rfl rfl)
theorem dX0_digits_84 : decode cX0_digits 84 = .ok (.aload_n 0, 1) := dk_42 (dk_at dksX0_digits_3 12 rfl rfl)
theorem dX0_digits_85 : decode cX0_digits 85 = .ok (.getfield 159, 3) := dk_180 0 159 (dk_at dksX0_digits_3 13 rfl rfl)
theorem dX0_digits_88 : decode cX0_digits 88 = .ok (.isub, 1) := dk_100 (dk_at dksX0_digits_3 16 rfl rfl)
theorem dX0_digits_89 : decode cX0_digits 89 = .ok (.iconst 4, 1) := dk_7 (dk_at dksX0_digits_3 17 rfl rfl)
theorem dX0_digits_90 : decode cX0_digits 90 = .ok (.if_icmp .le 8, 3) := dk_164 0 8 (dk_at dksX0_digits_3 18 rfl rfl)
theorem dX0_digits_93 : decode cX0_digits 93 = .ok (.aload_n 0, 1) := dk_42 (dk_at dksX0_digits_3 21 rfl rfl)
theorem dX0_digits_94 : decode cX0_digits 94 = .ok (.getfield 188, 3) := dk_180 0 188 (dk_at dksX0_digits_4 0 rfl rfl)
theorem dX0_digits_97 : decode cX0_digits 97 = .ok (.athrow, 1) := dk_191 (dk_at dksX0_digits_4 3 rfl rfl)
theorem dX0_digits_98 : decode cX0_digits 98 = .ok (.return_, 1) := dk_177 (dk_at dksX0_digits_4 4 rfl rfl)
abbrev cX0_isKey : ByteArray := prog_1_method_28_code
def yX0_isKey : MethodName := ⟨RX0, "isKey", "(I)Z"⟩
def dkwX0_isKey_0 : List UInt8 := [42, 180, 0, 162, 4, 160, 0, 15, 42, 180, 0, 178, 27, 160, 0, 7, 4, 167, 0, 4, 3, 172]
abbrev dktX0_isKey_0 : List UInt8 := dkwX0_isKey_0 ++ []
theorem dksX0_isKey_0 : cX0_isKey.data.toList.drop 0 = dktX0_isKey_0 := by decide +kernel
theorem dX0_isKey_0 : decode cX0_isKey 0 = .ok (.aload_n 0, 1) := dk_42 (dk_at dksX0_isKey_0 0 rfl rfl)
theorem dX0_isKey_1 : decode cX0_isKey 1 = .ok (.getfield 162, 3) := dk_180 0 162 (dk_at dksX0_isKey_0 1 rfl rfl)
theorem dX0_isKey_4 : decode cX0_isKey 4 = .ok (.iconst 1, 1) := dk_4 (dk_at dksX0_isKey_0 4 rfl rfl)
theorem dX0_isKey_5 : decode cX0_isKey 5 = .ok (.if_icmp .ne 15, 3) := dk_160 0 15 (dk_at dksX0_isKey_0 5 rfl rfl)
theorem dX0_isKey_8 : decode cX0_isKey 8 = .ok (.aload_n 0, 1) := dk_42 (dk_at dksX0_isKey_0 8 rfl rfl)
theorem dX0_isKey_9 : decode cX0_isKey 9 = .ok (.getfield 178, 3) := dk_180 0 178 (dk_at dksX0_isKey_0 9 rfl rfl)
theorem dX0_isKey_12 : decode cX0_isKey 12 = .ok (.iload_n 1, 1) := dk_27 (dk_at dksX0_isKey_0 12 rfl rfl)
theorem dX0_isKey_13 : decode cX0_isKey 13 = .ok (.if_icmp .ne 7, 3) := dk_160 0 7 (dk_at dksX0_isKey_0 13 rfl rfl)
theorem dX0_isKey_16 : decode cX0_isKey 16 = .ok (.iconst 1, 1) := dk_4 (dk_at dksX0_isKey_0 16 rfl rfl)
theorem dX0_isKey_17 : decode cX0_isKey 17 = .ok (.goto 4, 3) := dk_167 0 4 (dk_at dksX0_isKey_0 17 rfl rfl)
theorem dX0_isKey_20 : decode cX0_isKey 20 = .ok (.iconst 0, 1) := dk_3 (dk_at dksX0_isKey_0 20 rfl rfl)
theorem dX0_isKey_21 : decode cX0_isKey 21 = .ok (.ireturn, 1) := dk_172 (dk_at dksX0_isKey_0 21 rfl rfl)
abbrev cX0_need : ByteArray := prog_1_method_29_code
def yX0_need : MethodName := ⟨RX0, "need", "(Z)V"⟩
def dkwX0_need_0 : List UInt8 := [27, 154, 0, 8, 42, 180, 0, 188, 191, 42, 182, 0, 209, 177]
abbrev dktX0_need_0 : List UInt8 := dkwX0_need_0 ++ []
theorem dksX0_need_0 : cX0_need.data.toList.drop 0 = dktX0_need_0 := by decide +kernel
theorem dX0_need_0 : decode cX0_need 0 = .ok (.iload_n 1, 1) := dk_27 (dk_at dksX0_need_0 0 rfl rfl)
theorem dX0_need_1 : decode cX0_need 1 = .ok (.ifCond .ne 8, 3) := dk_154 0 8 (dk_at dksX0_need_0 1 rfl rfl)
theorem dX0_need_4 : decode cX0_need 4 = .ok (.aload_n 0, 1) := dk_42 (dk_at dksX0_need_0 4 rfl rfl)
theorem dX0_need_5 : decode cX0_need 5 = .ok (.getfield 188, 3) := dk_180 0 188 (dk_at dksX0_need_0 5 rfl rfl)
theorem dX0_need_8 : decode cX0_need 8 = .ok (.athrow, 1) := dk_191 (dk_at dksX0_need_0 8 rfl rfl)
theorem dX0_need_9 : decode cX0_need 9 = .ok (.aload_n 0, 1) := dk_42 (dk_at dksX0_need_0 9 rfl rfl)
theorem dX0_need_10 : decode cX0_need 10 = .ok (.invokevirtual 209, 3) := dk_182 0 209 (dk_at dksX0_need_0 10 rfl rfl)
theorem dX0_need_13 : decode cX0_need 13 = .ok (.return_, 1) := dk_177 (dk_at dksX0_need_0 13 rfl rfl)
abbrev cX0_either : ByteArray := prog_1_method_31_code
def yX0_either : MethodName := ⟨RX0, "either", "()LGleanersForGaps$Node;"⟩
def dkwX0_either_1 : List UInt8 := [42, 182, 0, 219, 183, 0, 228, 76, 167, 255, 229, 43, 176]
abbrev dktX0_either_1 : List UInt8 := dkwX0_either_1 ++ []
def dkwX0_either_0 : List UInt8 := [42, 182, 0, 219, 76, 42, 6, 182, 0, 223, 153, 0, 25, 42, 182, 0, 209, 187, 0, 226, 89, 16, 124, 43]
abbrev dktX0_either_0 : List UInt8 := dkwX0_either_0 ++ dktX0_either_1
theorem dksX0_either_0 : cX0_either.data.toList.drop 0 = dktX0_either_0 := by decide +kernel
theorem dksX0_either_1 : cX0_either.data.toList.drop 24 = dktX0_either_1 := dk_seg dksX0_either_0 24 rfl rfl
theorem dX0_either_0 : decode cX0_either 0 = .ok (.aload_n 0, 1) := dk_42 (dk_at dksX0_either_0 0 rfl rfl)
theorem dX0_either_1 : decode cX0_either 1 = .ok (.invokevirtual 219, 3) := dk_182 0 219 (dk_at dksX0_either_0 1 rfl rfl)
theorem dX0_either_4 : decode cX0_either 4 = .ok (.astore_n 1, 1) := dk_76 (dk_at dksX0_either_0 4 rfl rfl)
theorem dX0_either_5 : decode cX0_either 5 = .ok (.aload_n 0, 1) := dk_42 (dk_at dksX0_either_0 5 rfl rfl)
theorem dX0_either_6 : decode cX0_either 6 = .ok (.iconst 3, 1) := dk_6 (dk_at dksX0_either_0 6 rfl rfl)
theorem dX0_either_7 : decode cX0_either 7 = .ok (.invokevirtual 223, 3) := dk_182 0 223 (dk_at dksX0_either_0 7 rfl rfl)
theorem dX0_either_10 : decode cX0_either 10 = .ok (.ifCond .eq 25, 3) := dk_153 0 25 (dk_at dksX0_either_0 10 rfl rfl)
theorem dX0_either_13 : decode cX0_either 13 = .ok (.aload_n 0, 1) := dk_42 (dk_at dksX0_either_0 13 rfl rfl)
theorem dX0_either_14 : decode cX0_either 14 = .ok (.invokevirtual 209, 3) := dk_182 0 209 (dk_at dksX0_either_0 14 rfl rfl)
theorem dX0_either_17 : decode cX0_either 17 = .ok (.new 226, 3) := dk_187 0 226 (dk_at dksX0_either_0 17 rfl rfl)
theorem dX0_either_20 : decode cX0_either 20 = .ok (.dup, 1) := dk_89 (dk_at dksX0_either_0 20 rfl rfl)
theorem dX0_either_21 : decode cX0_either 21 = .ok (.bipush 124, 2) := dk_16 124 (dk_at dksX0_either_0 21 rfl rfl)
theorem dX0_either_23 : decode cX0_either 23 = .ok (.aload_n 1, 1) := dk_43 (dk_at dksX0_either_0 23 rfl rfl)
theorem dX0_either_24 : decode cX0_either 24 = .ok (.aload_n 0, 1) := dk_42 (dk_at dksX0_either_1 0 rfl rfl)
theorem dX0_either_25 : decode cX0_either 25 = .ok (.invokevirtual 219, 3) := dk_182 0 219 (dk_at dksX0_either_1 1 rfl rfl)
theorem dX0_either_28 : decode cX0_either 28 = .ok (.invokespecial 228, 3) := dk_183 0 228 (dk_at dksX0_either_1 4 rfl rfl)
theorem dX0_either_31 : decode cX0_either 31 = .ok (.astore_n 1, 1) := dk_76 (dk_at dksX0_either_1 7 rfl rfl)
theorem dX0_either_32 : decode cX0_either 32 = .ok (.goto (-27), 3) := dk_167 255 229 (dk_at dksX0_either_1 8 rfl rfl)
theorem dX0_either_35 : decode cX0_either 35 = .ok (.aload_n 1, 1) := dk_43 (dk_at dksX0_either_1 11 rfl rfl)
theorem dX0_either_36 : decode cX0_either 36 = .ok (.areturn, 1) := dk_176 (dk_at dksX0_either_1 12 rfl rfl)
abbrev cX0_both : ByteArray := prog_1_method_32_code
def yX0_both : MethodName := ⟨RX0, "both", "()LGleanersForGaps$Node;"⟩
def dkwX0_both_1 : List UInt8 := [42, 182, 0, 231, 183, 0, 228, 76, 167, 255, 229, 43, 176]
abbrev dktX0_both_1 : List UInt8 := dkwX0_both_1 ++ []
def dkwX0_both_0 : List UInt8 := [42, 182, 0, 231, 76, 42, 7, 182, 0, 223, 153, 0, 25, 42, 182, 0, 209, 187, 0, 226, 89, 16, 38, 43]
abbrev dktX0_both_0 : List UInt8 := dkwX0_both_0 ++ dktX0_both_1
theorem dksX0_both_0 : cX0_both.data.toList.drop 0 = dktX0_both_0 := by decide +kernel
theorem dksX0_both_1 : cX0_both.data.toList.drop 24 = dktX0_both_1 := dk_seg dksX0_both_0 24 rfl rfl
theorem dX0_both_0 : decode cX0_both 0 = .ok (.aload_n 0, 1) := dk_42 (dk_at dksX0_both_0 0 rfl rfl)
theorem dX0_both_1 : decode cX0_both 1 = .ok (.invokevirtual 231, 3) := dk_182 0 231 (dk_at dksX0_both_0 1 rfl rfl)
theorem dX0_both_4 : decode cX0_both 4 = .ok (.astore_n 1, 1) := dk_76 (dk_at dksX0_both_0 4 rfl rfl)
theorem dX0_both_5 : decode cX0_both 5 = .ok (.aload_n 0, 1) := dk_42 (dk_at dksX0_both_0 5 rfl rfl)
theorem dX0_both_6 : decode cX0_both 6 = .ok (.iconst 4, 1) := dk_7 (dk_at dksX0_both_0 6 rfl rfl)
theorem dX0_both_7 : decode cX0_both 7 = .ok (.invokevirtual 223, 3) := dk_182 0 223 (dk_at dksX0_both_0 7 rfl rfl)
theorem dX0_both_10 : decode cX0_both 10 = .ok (.ifCond .eq 25, 3) := dk_153 0 25 (dk_at dksX0_both_0 10 rfl rfl)
theorem dX0_both_13 : decode cX0_both 13 = .ok (.aload_n 0, 1) := dk_42 (dk_at dksX0_both_0 13 rfl rfl)
theorem dX0_both_14 : decode cX0_both 14 = .ok (.invokevirtual 209, 3) := dk_182 0 209 (dk_at dksX0_both_0 14 rfl rfl)
theorem dX0_both_17 : decode cX0_both 17 = .ok (.new 226, 3) := dk_187 0 226 (dk_at dksX0_both_0 17 rfl rfl)
theorem dX0_both_20 : decode cX0_both 20 = .ok (.dup, 1) := dk_89 (dk_at dksX0_both_0 20 rfl rfl)
theorem dX0_both_21 : decode cX0_both 21 = .ok (.bipush 38, 2) := dk_16 38 (dk_at dksX0_both_0 21 rfl rfl)
theorem dX0_both_23 : decode cX0_both 23 = .ok (.aload_n 1, 1) := dk_43 (dk_at dksX0_both_0 23 rfl rfl)
theorem dX0_both_24 : decode cX0_both 24 = .ok (.aload_n 0, 1) := dk_42 (dk_at dksX0_both_1 0 rfl rfl)
theorem dX0_both_25 : decode cX0_both 25 = .ok (.invokevirtual 231, 3) := dk_182 0 231 (dk_at dksX0_both_1 1 rfl rfl)
theorem dX0_both_28 : decode cX0_both 28 = .ok (.invokespecial 228, 3) := dk_183 0 228 (dk_at dksX0_both_1 4 rfl rfl)
theorem dX0_both_31 : decode cX0_both 31 = .ok (.astore_n 1, 1) := dk_76 (dk_at dksX0_both_1 7 rfl rfl)
theorem dX0_both_32 : decode cX0_both 32 = .ok (.goto (-27), 3) := dk_167 255 229 (dk_at dksX0_both_1 8 rfl rfl)
theorem dX0_both_35 : decode cX0_both 35 = .ok (.aload_n 1, 1) := dk_43 (dk_at dksX0_both_1 11 rfl rfl)
theorem dX0_both_36 : decode cX0_both 36 = .ok (.areturn, 1) := dk_176 (dk_at dksX0_both_1 12 rfl rfl)
abbrev cX0_not : ByteArray := prog_1_method_33_code
def yX0_not : MethodName := ⟨RX0, "not", "()LGleanersForGaps$Node;"⟩
def dkwX0_not_3 : List UInt8 := [89, 28, 43, 42, 182, 0, 242, 183, 0, 228, 76, 43, 176]
abbrev dktX0_not_3 : List UInt8 := dkwX0_not_3 ++ []
def dkwX0_not_2 : List UInt8 := [154, 0, 12, 42, 16, 61, 182, 0, 245, 153, 0, 26, 42, 180, 0, 178, 61, 42, 182, 0, 209, 187, 0, 226]
abbrev dktX0_not_2 : List UInt8 := dkwX0_not_2 ++ dktX0_not_3
def dkwX0_not_1 : List UInt8 := [181, 0, 212, 187, 0, 237, 89, 43, 3, 183, 0, 239, 176, 42, 182, 0, 242, 76, 42, 16, 60, 182, 0, 245]
abbrev dktX0_not_1 : List UInt8 := dkwX0_not_1 ++ dktX0_not_2
def dkwX0_not_0 : List UInt8 := [42, 8, 182, 0, 223, 153, 0, 32, 42, 182, 0, 234, 42, 182, 0, 231, 76, 42, 89, 180, 0, 212, 4, 100]
abbrev dktX0_not_0 : List UInt8 := dkwX0_not_0 ++ dktX0_not_1
theorem dksX0_not_0 : cX0_not.data.toList.drop 0 = dktX0_not_0 := by decide +kernel
theorem dksX0_not_1 : cX0_not.data.toList.drop 24 = dktX0_not_1 := dk_seg dksX0_not_0 24 rfl rfl
theorem dksX0_not_2 : cX0_not.data.toList.drop 48 = dktX0_not_2 := dk_seg dksX0_not_1 24 rfl rfl
theorem dksX0_not_3 : cX0_not.data.toList.drop 72 = dktX0_not_3 := dk_seg dksX0_not_2 24 rfl rfl
theorem dX0_not_0 : decode cX0_not 0 = .ok (.aload_n 0, 1) := dk_42 (dk_at dksX0_not_0 0 rfl rfl)
theorem dX0_not_1 : decode cX0_not 1 = .ok (.iconst 5, 1) := dk_8 (dk_at dksX0_not_0 1 rfl rfl)
theorem dX0_not_2 : decode cX0_not 2 = .ok (.invokevirtual 223, 3) := dk_182 0 223 (dk_at dksX0_not_0 2 rfl rfl)
theorem dX0_not_5 : decode cX0_not 5 = .ok (.ifCond .eq 32, 3) := dk_153 0 32 (dk_at dksX0_not_0 5 rfl rfl)
theorem dX0_not_8 : decode cX0_not 8 = .ok (.aload_n 0, 1) := dk_42 (dk_at dksX0_not_0 8 rfl rfl)
theorem dX0_not_9 : decode cX0_not 9 = .ok (.invokevirtual 234, 3) := dk_182 0 234 (dk_at dksX0_not_0 9 rfl rfl)
theorem dX0_not_12 : decode cX0_not 12 = .ok (.aload_n 0, 1) := dk_42 (dk_at dksX0_not_0 12 rfl rfl)
theorem dX0_not_13 : decode cX0_not 13 = .ok (.invokevirtual 231, 3) := dk_182 0 231 (dk_at dksX0_not_0 13 rfl rfl)
theorem dX0_not_16 : decode cX0_not 16 = .ok (.astore_n 1, 1) := dk_76 (dk_at dksX0_not_0 16 rfl rfl)
theorem dX0_not_17 : decode cX0_not 17 = .ok (.aload_n 0, 1) := dk_42 (dk_at dksX0_not_0 17 rfl rfl)
theorem dX0_not_18 : decode cX0_not 18 = .ok (.dup, 1) := dk_89 (dk_at dksX0_not_0 18 rfl rfl)
theorem dX0_not_19 : decode cX0_not 19 = .ok (.getfield 212, 3) := dk_180 0 212 (dk_at dksX0_not_0 19 rfl rfl)
theorem dX0_not_22 : decode cX0_not 22 = .ok (.iconst 1, 1) := dk_4 (dk_at dksX0_not_0 22 rfl rfl)
theorem dX0_not_23 : decode cX0_not 23 = .ok (.isub, 1) := dk_100 (dk_at dksX0_not_0 23 rfl rfl)
theorem dX0_not_24 : decode cX0_not 24 = .ok (.putfield 212, 3) := dk_181 0 212 (dk_at dksX0_not_1 0 rfl rfl)
theorem dX0_not_27 : decode cX0_not 27 = .ok (.new 237, 3) := dk_187 0 237 (dk_at dksX0_not_1 3 rfl rfl)
theorem dX0_not_30 : decode cX0_not 30 = .ok (.dup, 1) := dk_89 (dk_at dksX0_not_1 6 rfl rfl)
theorem dX0_not_31 : decode cX0_not 31 = .ok (.aload_n 1, 1) := dk_43 (dk_at dksX0_not_1 7 rfl rfl)
theorem dX0_not_32 : decode cX0_not 32 = .ok (.iconst 0, 1) := dk_3 (dk_at dksX0_not_1 8 rfl rfl)
theorem dX0_not_33 : decode cX0_not 33 = .ok (.invokespecial 239, 3) := dk_183 0 239 (dk_at dksX0_not_1 9 rfl rfl)
theorem dX0_not_36 : decode cX0_not 36 = .ok (.areturn, 1) := dk_176 (dk_at dksX0_not_1 12 rfl rfl)
theorem dX0_not_37 : decode cX0_not 37 = .ok (.aload_n 0, 1) := dk_42 (dk_at dksX0_not_1 13 rfl rfl)
theorem dX0_not_38 : decode cX0_not 38 = .ok (.invokevirtual 242, 3) := dk_182 0 242 (dk_at dksX0_not_1 14 rfl rfl)
theorem dX0_not_41 : decode cX0_not 41 = .ok (.astore_n 1, 1) := dk_76 (dk_at dksX0_not_1 17 rfl rfl)
theorem dX0_not_42 : decode cX0_not 42 = .ok (.aload_n 0, 1) := dk_42 (dk_at dksX0_not_1 18 rfl rfl)
theorem dX0_not_43 : decode cX0_not 43 = .ok (.bipush 60, 2) := dk_16 60 (dk_at dksX0_not_1 19 rfl rfl)
theorem dX0_not_45 : decode cX0_not 45 = .ok (.invokevirtual 245, 3) := dk_182 0 245 (dk_at dksX0_not_1 21 rfl rfl)
theorem dX0_not_48 : decode cX0_not 48 = .ok (.ifCond .ne 12, 3) := dk_154 0 12 (dk_at dksX0_not_2 0 rfl rfl)
theorem dX0_not_51 : decode cX0_not 51 = .ok (.aload_n 0, 1) := dk_42 (dk_at dksX0_not_2 3 rfl rfl)
theorem dX0_not_52 : decode cX0_not 52 = .ok (.bipush 61, 2) := dk_16 61 (dk_at dksX0_not_2 4 rfl rfl)
theorem dX0_not_54 : decode cX0_not 54 = .ok (.invokevirtual 245, 3) := dk_182 0 245 (dk_at dksX0_not_2 6 rfl rfl)
theorem dX0_not_57 : decode cX0_not 57 = .ok (.ifCond .eq 26, 3) := dk_153 0 26 (dk_at dksX0_not_2 9 rfl rfl)
theorem dX0_not_60 : decode cX0_not 60 = .ok (.aload_n 0, 1) := dk_42 (dk_at dksX0_not_2 12 rfl rfl)
theorem dX0_not_61 : decode cX0_not 61 = .ok (.getfield 178, 3) := dk_180 0 178 (dk_at dksX0_not_2 13 rfl rfl)
theorem dX0_not_64 : decode cX0_not 64 = .ok (.istore_n 2, 1) := dk_61 (dk_at dksX0_not_2 16 rfl rfl)
theorem dX0_not_65 : decode cX0_not 65 = .ok (.aload_n 0, 1) := dk_42 (dk_at dksX0_not_2 17 rfl rfl)
theorem dX0_not_66 : decode cX0_not 66 = .ok (.invokevirtual 209, 3) := dk_182 0 209 (dk_at dksX0_not_2 18 rfl rfl)
theorem dX0_not_69 : decode cX0_not 69 = .ok (.new 226, 3) := dk_187 0 226 (dk_at dksX0_not_2 21 rfl rfl)
theorem dX0_not_72 : decode cX0_not 72 = .ok (.dup, 1) := dk_89 (dk_at dksX0_not_3 0 rfl rfl)
theorem dX0_not_73 : decode cX0_not 73 = .ok (.iload_n 2, 1) := dk_28 (dk_at dksX0_not_3 1 rfl rfl)
theorem dX0_not_74 : decode cX0_not 74 = .ok (.aload_n 1, 1) := dk_43 (dk_at dksX0_not_3 2 rfl rfl)
theorem dX0_not_75 : decode cX0_not 75 = .ok (.aload_n 0, 1) := dk_42 (dk_at dksX0_not_3 3 rfl rfl)
theorem dX0_not_76 : decode cX0_not 76 = .ok (.invokevirtual 242, 3) := dk_182 0 242 (dk_at dksX0_not_3 4 rfl rfl)
theorem dX0_not_79 : decode cX0_not 79 = .ok (.invokespecial 228, 3) := dk_183 0 228 (dk_at dksX0_not_3 7 rfl rfl)
theorem dX0_not_82 : decode cX0_not 82 = .ok (.astore_n 1, 1) := dk_76 (dk_at dksX0_not_3 10 rfl rfl)
theorem dX0_not_83 : decode cX0_not 83 = .ok (.aload_n 1, 1) := dk_43 (dk_at dksX0_not_3 11 rfl rfl)
theorem dX0_not_84 : decode cX0_not 84 = .ok (.areturn, 1) := dk_176 (dk_at dksX0_not_3 12 rfl rfl)
abbrev cX0_openOne : ByteArray := prog_1_method_30_code
def yX0_openOne : MethodName := ⟨RX0, "openOne", "()V"⟩
def dkwX0_openOne_1 : List UInt8 := [181, 0, 212, 177]
abbrev dktX0_openOne_1 : List UInt8 := dkwX0_openOne_1 ++ []
def dkwX0_openOne_0 : List UInt8 := [42, 42, 180, 0, 212, 8, 162, 0, 7, 4, 167, 0, 4, 3, 182, 0, 215, 42, 89, 180, 0, 212, 4, 96]
abbrev dktX0_openOne_0 : List UInt8 := dkwX0_openOne_0 ++ dktX0_openOne_1
theorem dksX0_openOne_0 : cX0_openOne.data.toList.drop 0 = dktX0_openOne_0 := by decide +kernel
theorem dksX0_openOne_1 : cX0_openOne.data.toList.drop 24 = dktX0_openOne_1 := dk_seg dksX0_openOne_0 24 rfl rfl
theorem dX0_openOne_0 : decode cX0_openOne 0 = .ok (.aload_n 0, 1) := dk_42 (dk_at dksX0_openOne_0 0 rfl rfl)
theorem dX0_openOne_1 : decode cX0_openOne 1 = .ok (.aload_n 0, 1) := dk_42 (dk_at dksX0_openOne_0 1 rfl rfl)
theorem dX0_openOne_2 : decode cX0_openOne 2 = .ok (.getfield 212, 3) := dk_180 0 212 (dk_at dksX0_openOne_0 2 rfl rfl)
theorem dX0_openOne_5 : decode cX0_openOne 5 = .ok (.iconst 5, 1) := dk_8 (dk_at dksX0_openOne_0 5 rfl rfl)
theorem dX0_openOne_6 : decode cX0_openOne 6 = .ok (.if_icmp .ge 7, 3) := dk_162 0 7 (dk_at dksX0_openOne_0 6 rfl rfl)
theorem dX0_openOne_9 : decode cX0_openOne 9 = .ok (.iconst 1, 1) := dk_4 (dk_at dksX0_openOne_0 9 rfl rfl)
theorem dX0_openOne_10 : decode cX0_openOne 10 = .ok (.goto 4, 3) := dk_167 0 4 (dk_at dksX0_openOne_0 10 rfl rfl)
theorem dX0_openOne_13 : decode cX0_openOne 13 = .ok (.iconst 0, 1) := dk_3 (dk_at dksX0_openOne_0 13 rfl rfl)
theorem dX0_openOne_14 : decode cX0_openOne 14 = .ok (.invokevirtual 215, 3) := dk_182 0 215 (dk_at dksX0_openOne_0 14 rfl rfl)
theorem dX0_openOne_17 : decode cX0_openOne 17 = .ok (.aload_n 0, 1) := dk_42 (dk_at dksX0_openOne_0 17 rfl rfl)
theorem dX0_openOne_18 : decode cX0_openOne 18 = .ok (.dup, 1) := dk_89 (dk_at dksX0_openOne_0 18 rfl rfl)
theorem dX0_openOne_19 : decode cX0_openOne 19 = .ok (.getfield 212, 3) := dk_180 0 212 (dk_at dksX0_openOne_0 19 rfl rfl)
theorem dX0_openOne_22 : decode cX0_openOne 22 = .ok (.iconst 1, 1) := dk_4 (dk_at dksX0_openOne_0 22 rfl rfl)
theorem dX0_openOne_23 : decode cX0_openOne 23 = .ok (.iadd, 1) := dk_96 (dk_at dksX0_openOne_0 23 rfl rfl)
theorem dX0_openOne_24 : decode cX0_openOne 24 = .ok (.putfield 212, 3) := dk_181 0 212 (dk_at dksX0_openOne_1 0 rfl rfl)
theorem dX0_openOne_27 : decode cX0_openOne 27 = .ok (.return_, 1) := dk_177 (dk_at dksX0_openOne_1 3 rfl rfl)
abbrev cX0_plus : ByteArray := prog_1_method_34_code
def yX0_plus : MethodName := ⟨RX0, "plus", "()LGleanersForGaps$Node;"⟩
def dkwX0_plus_2 : List UInt8 := [167, 255, 215, 43, 176]
abbrev dktX0_plus_2 : List UInt8 := dkwX0_plus_2 ++ []
def dkwX0_plus_1 : List UInt8 := [180, 0, 178, 61, 42, 182, 0, 209, 187, 0, 226, 89, 28, 43, 42, 182, 0, 248, 183, 0, 228, 76]
abbrev dktX0_plus_1 : List UInt8 := dkwX0_plus_1 ++ dktX0_plus_2
def dkwX0_plus_0 : List UInt8 := [42, 182, 0, 248, 76, 42, 16, 43, 182, 0, 245, 154, 0, 12, 42, 16, 45, 182, 0, 245, 153, 0, 29, 42]
abbrev dktX0_plus_0 : List UInt8 := dkwX0_plus_0 ++ dktX0_plus_1
theorem dksX0_plus_0 : cX0_plus.data.toList.drop 0 = dktX0_plus_0 := by decide +kernel
theorem dksX0_plus_1 : cX0_plus.data.toList.drop 24 = dktX0_plus_1 := dk_seg dksX0_plus_0 24 rfl rfl
theorem dksX0_plus_2 : cX0_plus.data.toList.drop 46 = dktX0_plus_2 := dk_seg dksX0_plus_1 22 rfl rfl
theorem dX0_plus_0 : decode cX0_plus 0 = .ok (.aload_n 0, 1) := dk_42 (dk_at dksX0_plus_0 0 rfl rfl)
theorem dX0_plus_1 : decode cX0_plus 1 = .ok (.invokevirtual 248, 3) := dk_182 0 248 (dk_at dksX0_plus_0 1 rfl rfl)
theorem dX0_plus_4 : decode cX0_plus 4 = .ok (.astore_n 1, 1) := dk_76 (dk_at dksX0_plus_0 4 rfl rfl)
theorem dX0_plus_5 : decode cX0_plus 5 = .ok (.aload_n 0, 1) := dk_42 (dk_at dksX0_plus_0 5 rfl rfl)
theorem dX0_plus_6 : decode cX0_plus 6 = .ok (.bipush 43, 2) := dk_16 43 (dk_at dksX0_plus_0 6 rfl rfl)
theorem dX0_plus_8 : decode cX0_plus 8 = .ok (.invokevirtual 245, 3) := dk_182 0 245 (dk_at dksX0_plus_0 8 rfl rfl)
theorem dX0_plus_11 : decode cX0_plus 11 = .ok (.ifCond .ne 12, 3) := dk_154 0 12 (dk_at dksX0_plus_0 11 rfl rfl)
theorem dX0_plus_14 : decode cX0_plus 14 = .ok (.aload_n 0, 1) := dk_42 (dk_at dksX0_plus_0 14 rfl rfl)
theorem dX0_plus_15 : decode cX0_plus 15 = .ok (.bipush 45, 2) := dk_16 45 (dk_at dksX0_plus_0 15 rfl rfl)
theorem dX0_plus_17 : decode cX0_plus 17 = .ok (.invokevirtual 245, 3) := dk_182 0 245 (dk_at dksX0_plus_0 17 rfl rfl)
theorem dX0_plus_20 : decode cX0_plus 20 = .ok (.ifCond .eq 29, 3) := dk_153 0 29 (dk_at dksX0_plus_0 20 rfl rfl)
theorem dX0_plus_23 : decode cX0_plus 23 = .ok (.aload_n 0, 1) := dk_42 (dk_at dksX0_plus_0 23 rfl rfl)
theorem dX0_plus_24 : decode cX0_plus 24 = .ok (.getfield 178, 3) := dk_180 0 178 (dk_at dksX0_plus_1 0 rfl rfl)
theorem dX0_plus_27 : decode cX0_plus 27 = .ok (.istore_n 2, 1) := dk_61 (dk_at dksX0_plus_1 3 rfl rfl)
theorem dX0_plus_28 : decode cX0_plus 28 = .ok (.aload_n 0, 1) := dk_42 (dk_at dksX0_plus_1 4 rfl rfl)
theorem dX0_plus_29 : decode cX0_plus 29 = .ok (.invokevirtual 209, 3) := dk_182 0 209 (dk_at dksX0_plus_1 5 rfl rfl)
theorem dX0_plus_32 : decode cX0_plus 32 = .ok (.new 226, 3) := dk_187 0 226 (dk_at dksX0_plus_1 8 rfl rfl)
theorem dX0_plus_35 : decode cX0_plus 35 = .ok (.dup, 1) := dk_89 (dk_at dksX0_plus_1 11 rfl rfl)
theorem dX0_plus_36 : decode cX0_plus 36 = .ok (.iload_n 2, 1) := dk_28 (dk_at dksX0_plus_1 12 rfl rfl)
theorem dX0_plus_37 : decode cX0_plus 37 = .ok (.aload_n 1, 1) := dk_43 (dk_at dksX0_plus_1 13 rfl rfl)
theorem dX0_plus_38 : decode cX0_plus 38 = .ok (.aload_n 0, 1) := dk_42 (dk_at dksX0_plus_1 14 rfl rfl)
theorem dX0_plus_39 : decode cX0_plus 39 = .ok (.invokevirtual 248, 3) := dk_182 0 248 (dk_at dksX0_plus_1 15 rfl rfl)
theorem dX0_plus_42 : decode cX0_plus 42 = .ok (.invokespecial 228, 3) := dk_183 0 228 (dk_at dksX0_plus_1 18 rfl rfl)
theorem dX0_plus_45 : decode cX0_plus 45 = .ok (.astore_n 1, 1) := dk_76 (dk_at dksX0_plus_1 21 rfl rfl)
theorem dX0_plus_46 : decode cX0_plus 46 = .ok (.goto (-41), 3) := dk_167 255 215 (dk_at dksX0_plus_2 0 rfl rfl)
theorem dX0_plus_49 : decode cX0_plus 49 = .ok (.aload_n 1, 1) := dk_43 (dk_at dksX0_plus_2 3 rfl rfl)
theorem dX0_plus_50 : decode cX0_plus 50 = .ok (.areturn, 1) := dk_176 (dk_at dksX0_plus_2 4 rfl rfl)
abbrev cX0_times : ByteArray := prog_1_method_35_code
def yX0_times : MethodName := ⟨RX0, "times", "()LGleanersForGaps$Node;"⟩
def dkwX0_times_1 : List UInt8 := [43, 42, 182, 0, 251, 183, 0, 228, 76, 167, 255, 228, 43, 176]
abbrev dktX0_times_1 : List UInt8 := dkwX0_times_1 ++ []
def dkwX0_times_0 : List UInt8 := [42, 182, 0, 251, 76, 42, 16, 42, 182, 0, 245, 153, 0, 25, 42, 182, 0, 209, 187, 0, 226, 89, 16, 42]
abbrev dktX0_times_0 : List UInt8 := dkwX0_times_0 ++ dktX0_times_1
theorem dksX0_times_0 : cX0_times.data.toList.drop 0 = dktX0_times_0 := by decide +kernel
theorem dksX0_times_1 : cX0_times.data.toList.drop 24 = dktX0_times_1 := dk_seg dksX0_times_0 24 rfl rfl
theorem dX0_times_0 : decode cX0_times 0 = .ok (.aload_n 0, 1) := dk_42 (dk_at dksX0_times_0 0 rfl rfl)
theorem dX0_times_1 : decode cX0_times 1 = .ok (.invokevirtual 251, 3) := dk_182 0 251 (dk_at dksX0_times_0 1 rfl rfl)
theorem dX0_times_4 : decode cX0_times 4 = .ok (.astore_n 1, 1) := dk_76 (dk_at dksX0_times_0 4 rfl rfl)
theorem dX0_times_5 : decode cX0_times 5 = .ok (.aload_n 0, 1) := dk_42 (dk_at dksX0_times_0 5 rfl rfl)
theorem dX0_times_6 : decode cX0_times 6 = .ok (.bipush 42, 2) := dk_16 42 (dk_at dksX0_times_0 6 rfl rfl)
theorem dX0_times_8 : decode cX0_times 8 = .ok (.invokevirtual 245, 3) := dk_182 0 245 (dk_at dksX0_times_0 8 rfl rfl)
theorem dX0_times_11 : decode cX0_times 11 = .ok (.ifCond .eq 25, 3) := dk_153 0 25 (dk_at dksX0_times_0 11 rfl rfl)
theorem dX0_times_14 : decode cX0_times 14 = .ok (.aload_n 0, 1) := dk_42 (dk_at dksX0_times_0 14 rfl rfl)
theorem dX0_times_15 : decode cX0_times 15 = .ok (.invokevirtual 209, 3) := dk_182 0 209 (dk_at dksX0_times_0 15 rfl rfl)
theorem dX0_times_18 : decode cX0_times 18 = .ok (.new 226, 3) := dk_187 0 226 (dk_at dksX0_times_0 18 rfl rfl)
theorem dX0_times_21 : decode cX0_times 21 = .ok (.dup, 1) := dk_89 (dk_at dksX0_times_0 21 rfl rfl)
theorem dX0_times_22 : decode cX0_times 22 = .ok (.bipush 42, 2) := dk_16 42 (dk_at dksX0_times_0 22 rfl rfl)
theorem dX0_times_24 : decode cX0_times 24 = .ok (.aload_n 1, 1) := dk_43 (dk_at dksX0_times_1 0 rfl rfl)
theorem dX0_times_25 : decode cX0_times 25 = .ok (.aload_n 0, 1) := dk_42 (dk_at dksX0_times_1 1 rfl rfl)
theorem dX0_times_26 : decode cX0_times 26 = .ok (.invokevirtual 251, 3) := dk_182 0 251 (dk_at dksX0_times_1 2 rfl rfl)
theorem dX0_times_29 : decode cX0_times 29 = .ok (.invokespecial 228, 3) := dk_183 0 228 (dk_at dksX0_times_1 5 rfl rfl)
theorem dX0_times_32 : decode cX0_times 32 = .ok (.astore_n 1, 1) := dk_76 (dk_at dksX0_times_1 8 rfl rfl)
theorem dX0_times_33 : decode cX0_times 33 = .ok (.goto (-28), 3) := dk_167 255 228 (dk_at dksX0_times_1 9 rfl rfl)
theorem dX0_times_36 : decode cX0_times 36 = .ok (.aload_n 1, 1) := dk_43 (dk_at dksX0_times_1 12 rfl rfl)
theorem dX0_times_37 : decode cX0_times 37 = .ok (.areturn, 1) := dk_176 (dk_at dksX0_times_1 13 rfl rfl)
abbrev cX0_one : ByteArray := prog_1_method_36_code
def yX0_one : MethodName := ⟨RX0, "one", "()LGleanersForGaps$Node;"⟩
def dkwX0_one_5 : List UInt8 := [154, 0, 8, 42, 180, 0, 188, 191, 42, 89, 180, 0, 212, 4, 100, 181, 0, 212, 42, 182, 0, 209, 44, 176]
abbrev dktX0_one_5 : List UInt8 := dkwX0_one_5 ++ []
def dkwX0_one_4 : List UInt8 := [154, 0, 8, 42, 180, 0, 188, 191, 42, 182, 0, 234, 42, 182, 1, 6, 77, 42, 16, 41, 182, 0, 245]
abbrev dktX0_one_4 : List UInt8 := dkwX0_one_4 ++ dktX0_one_5
def dkwX0_one_3 : List UInt8 := [180, 0, 212, 4, 100, 181, 0, 212, 187, 0, 237, 89, 44, 4, 183, 0, 239, 176, 42, 16, 40, 182, 0, 245]
abbrev dktX0_one_3 : List UInt8 := dkwX0_one_3 ++ dktX0_one_4
def dkwX0_one_2 : List UInt8 := [183, 1, 3, 176, 42, 16, 45, 182, 0, 245, 153, 0, 32, 42, 182, 0, 234, 42, 182, 0, 251, 77, 42, 89]
abbrev dktX0_one_2 : List UInt8 := dkwX0_one_2 ++ dktX0_one_3
def dkwX0_one_1 : List UInt8 := [183, 1, 0, 176, 42, 180, 0, 162, 5, 160, 0, 17, 42, 182, 0, 209, 187, 1, 1, 89, 42, 27]
abbrev dktX0_one_1 : List UInt8 := dkwX0_one_1 ++ dktX0_one_2
def dkwX0_one_0 : List UInt8 := [42, 180, 0, 178, 60, 42, 180, 0, 162, 6, 160, 0, 16, 42, 182, 0, 209, 187, 0, 254, 89, 27]
abbrev dktX0_one_0 : List UInt8 := dkwX0_one_0 ++ dktX0_one_1
theorem dksX0_one_0 : cX0_one.data.toList.drop 0 = dktX0_one_0 := by decide +kernel
theorem dksX0_one_1 : cX0_one.data.toList.drop 22 = dktX0_one_1 := dk_seg dksX0_one_0 22 rfl rfl
theorem dksX0_one_2 : cX0_one.data.toList.drop 44 = dktX0_one_2 := dk_seg dksX0_one_1 22 rfl rfl
theorem dksX0_one_3 : cX0_one.data.toList.drop 68 = dktX0_one_3 := dk_seg dksX0_one_2 24 rfl rfl
theorem dksX0_one_4 : cX0_one.data.toList.drop 92 = dktX0_one_4 := dk_seg dksX0_one_3 24 rfl rfl
theorem dksX0_one_5 : cX0_one.data.toList.drop 115 = dktX0_one_5 := dk_seg dksX0_one_4 23 rfl rfl
theorem dX0_one_0 : decode cX0_one 0 = .ok (.aload_n 0, 1) := dk_42 (dk_at dksX0_one_0 0 rfl rfl)
theorem dX0_one_1 : decode cX0_one 1 = .ok (.getfield 178, 3) := dk_180 0 178 (dk_at dksX0_one_0 1 rfl rfl)
theorem dX0_one_4 : decode cX0_one 4 = .ok (.istore_n 1, 1) := dk_60 (dk_at dksX0_one_0 4 rfl rfl)
theorem dX0_one_5 : decode cX0_one 5 = .ok (.aload_n 0, 1) := dk_42 (dk_at dksX0_one_0 5 rfl rfl)
theorem dX0_one_6 : decode cX0_one 6 = .ok (.getfield 162, 3) := dk_180 0 162 (dk_at dksX0_one_0 6 rfl rfl)
theorem dX0_one_9 : decode cX0_one 9 = .ok (.iconst 3, 1) := dk_6 (dk_at dksX0_one_0 9 rfl rfl)
theorem dX0_one_10 : decode cX0_one 10 = .ok (.if_icmp .ne 16, 3) := dk_160 0 16 (dk_at dksX0_one_0 10 rfl rfl)
theorem dX0_one_13 : decode cX0_one 13 = .ok (.aload_n 0, 1) := dk_42 (dk_at dksX0_one_0 13 rfl rfl)
theorem dX0_one_14 : decode cX0_one 14 = .ok (.invokevirtual 209, 3) := dk_182 0 209 (dk_at dksX0_one_0 14 rfl rfl)
theorem dX0_one_17 : decode cX0_one 17 = .ok (.new 254, 3) := dk_187 0 254 (dk_at dksX0_one_0 17 rfl rfl)
theorem dX0_one_20 : decode cX0_one 20 = .ok (.dup, 1) := dk_89 (dk_at dksX0_one_0 20 rfl rfl)
theorem dX0_one_21 : decode cX0_one 21 = .ok (.iload_n 1, 1) := dk_27 (dk_at dksX0_one_0 21 rfl rfl)
theorem dX0_one_22 : decode cX0_one 22 = .ok (.invokespecial 256, 3) := dk_183 1 0 (dk_at dksX0_one_1 0 rfl rfl)
theorem dX0_one_25 : decode cX0_one 25 = .ok (.areturn, 1) := dk_176 (dk_at dksX0_one_1 3 rfl rfl)
theorem dX0_one_26 : decode cX0_one 26 = .ok (.aload_n 0, 1) := dk_42 (dk_at dksX0_one_1 4 rfl rfl)
theorem dX0_one_27 : decode cX0_one 27 = .ok (.getfield 162, 3) := dk_180 0 162 (dk_at dksX0_one_1 5 rfl rfl)
theorem dX0_one_30 : decode cX0_one 30 = .ok (.iconst 2, 1) := dk_5 (dk_at dksX0_one_1 8 rfl rfl)
theorem dX0_one_31 : decode cX0_one 31 = .ok (.if_icmp .ne 17, 3) := dk_160 0 17 (dk_at dksX0_one_1 9 rfl rfl)
theorem dX0_one_34 : decode cX0_one 34 = .ok (.aload_n 0, 1) := dk_42 (dk_at dksX0_one_1 12 rfl rfl)
theorem dX0_one_35 : decode cX0_one 35 = .ok (.invokevirtual 209, 3) := dk_182 0 209 (dk_at dksX0_one_1 13 rfl rfl)
theorem dX0_one_38 : decode cX0_one 38 = .ok (.new 257, 3) := dk_187 1 1 (dk_at dksX0_one_1 16 rfl rfl)
theorem dX0_one_41 : decode cX0_one 41 = .ok (.dup, 1) := dk_89 (dk_at dksX0_one_1 19 rfl rfl)
theorem dX0_one_42 : decode cX0_one 42 = .ok (.aload_n 0, 1) := dk_42 (dk_at dksX0_one_1 20 rfl rfl)
theorem dX0_one_43 : decode cX0_one 43 = .ok (.iload_n 1, 1) := dk_27 (dk_at dksX0_one_1 21 rfl rfl)
theorem dX0_one_44 : decode cX0_one 44 = .ok (.invokespecial 259, 3) := dk_183 1 3 (dk_at dksX0_one_2 0 rfl rfl)
theorem dX0_one_47 : decode cX0_one 47 = .ok (.areturn, 1) := dk_176 (dk_at dksX0_one_2 3 rfl rfl)
theorem dX0_one_48 : decode cX0_one 48 = .ok (.aload_n 0, 1) := dk_42 (dk_at dksX0_one_2 4 rfl rfl)
theorem dX0_one_49 : decode cX0_one 49 = .ok (.bipush 45, 2) := dk_16 45 (dk_at dksX0_one_2 5 rfl rfl)
theorem dX0_one_51 : decode cX0_one 51 = .ok (.invokevirtual 245, 3) := dk_182 0 245 (dk_at dksX0_one_2 7 rfl rfl)
theorem dX0_one_54 : decode cX0_one 54 = .ok (.ifCond .eq 32, 3) := dk_153 0 32 (dk_at dksX0_one_2 10 rfl rfl)
theorem dX0_one_57 : decode cX0_one 57 = .ok (.aload_n 0, 1) := dk_42 (dk_at dksX0_one_2 13 rfl rfl)
theorem dX0_one_58 : decode cX0_one 58 = .ok (.invokevirtual 234, 3) := dk_182 0 234 (dk_at dksX0_one_2 14 rfl rfl)
theorem dX0_one_61 : decode cX0_one 61 = .ok (.aload_n 0, 1) := dk_42 (dk_at dksX0_one_2 17 rfl rfl)
theorem dX0_one_62 : decode cX0_one 62 = .ok (.invokevirtual 251, 3) := dk_182 0 251 (dk_at dksX0_one_2 18 rfl rfl)
theorem dX0_one_65 : decode cX0_one 65 = .ok (.astore_n 2, 1) := dk_77 (dk_at dksX0_one_2 21 rfl rfl)
theorem dX0_one_66 : decode cX0_one 66 = .ok (.aload_n 0, 1) := dk_42 (dk_at dksX0_one_2 22 rfl rfl)
theorem dX0_one_67 : decode cX0_one 67 = .ok (.dup, 1) := dk_89 (dk_at dksX0_one_2 23 rfl rfl)
theorem dX0_one_68 : decode cX0_one 68 = .ok (.getfield 212, 3) := dk_180 0 212 (dk_at dksX0_one_3 0 rfl rfl)
theorem dX0_one_71 : decode cX0_one 71 = .ok (.iconst 1, 1) := dk_4 (dk_at dksX0_one_3 3 rfl rfl)
theorem dX0_one_72 : decode cX0_one 72 = .ok (.isub, 1) := dk_100 (dk_at dksX0_one_3 4 rfl rfl)
theorem dX0_one_73 : decode cX0_one 73 = .ok (.putfield 212, 3) := dk_181 0 212 (dk_at dksX0_one_3 5 rfl rfl)
theorem dX0_one_76 : decode cX0_one 76 = .ok (.new 237, 3) := dk_187 0 237 (dk_at dksX0_one_3 8 rfl rfl)
theorem dX0_one_79 : decode cX0_one 79 = .ok (.dup, 1) := dk_89 (dk_at dksX0_one_3 11 rfl rfl)
theorem dX0_one_80 : decode cX0_one 80 = .ok (.aload_n 2, 1) := dk_44 (dk_at dksX0_one_3 12 rfl rfl)
theorem dX0_one_81 : decode cX0_one 81 = .ok (.iconst 1, 1) := dk_4 (dk_at dksX0_one_3 13 rfl rfl)
theorem dX0_one_82 : decode cX0_one 82 = .ok (.invokespecial 239, 3) := dk_183 0 239 (dk_at dksX0_one_3 14 rfl rfl)
theorem dX0_one_85 : decode cX0_one 85 = .ok (.areturn, 1) := dk_176 (dk_at dksX0_one_3 17 rfl rfl)
theorem dX0_one_86 : decode cX0_one 86 = .ok (.aload_n 0, 1) := dk_42 (dk_at dksX0_one_3 18 rfl rfl)
theorem dX0_one_87 : decode cX0_one 87 = .ok (.bipush 40, 2) := dk_16 40 (dk_at dksX0_one_3 19 rfl rfl)
theorem dX0_one_89 : decode cX0_one 89 = .ok (.invokevirtual 245, 3) := dk_182 0 245 (dk_at dksX0_one_3 21 rfl rfl)
theorem dX0_one_92 : decode cX0_one 92 = .ok (.ifCond .ne 8, 3) := dk_154 0 8 (dk_at dksX0_one_4 0 rfl rfl)
theorem dX0_one_95 : decode cX0_one 95 = .ok (.aload_n 0, 1) := dk_42 (dk_at dksX0_one_4 3 rfl rfl)
theorem dX0_one_96 : decode cX0_one 96 = .ok (.getfield 188, 3) := dk_180 0 188 (dk_at dksX0_one_4 4 rfl rfl)
theorem dX0_one_99 : decode cX0_one 99 = .ok (.athrow, 1) := dk_191 (dk_at dksX0_one_4 7 rfl rfl)
theorem dX0_one_100 : decode cX0_one 100 = .ok (.aload_n 0, 1) := dk_42 (dk_at dksX0_one_4 8 rfl rfl)
theorem dX0_one_101 : decode cX0_one 101 = .ok (.invokevirtual 234, 3) := dk_182 0 234 (dk_at dksX0_one_4 9 rfl rfl)
theorem dX0_one_104 : decode cX0_one 104 = .ok (.aload_n 0, 1) := dk_42 (dk_at dksX0_one_4 12 rfl rfl)
theorem dX0_one_105 : decode cX0_one 105 = .ok (.invokevirtual 262, 3) := dk_182 1 6 (dk_at dksX0_one_4 13 rfl rfl)
theorem dX0_one_108 : decode cX0_one 108 = .ok (.astore_n 2, 1) := dk_77 (dk_at dksX0_one_4 16 rfl rfl)
theorem dX0_one_109 : decode cX0_one 109 = .ok (.aload_n 0, 1) := dk_42 (dk_at dksX0_one_4 17 rfl rfl)
theorem dX0_one_110 : decode cX0_one 110 = .ok (.bipush 41, 2) := dk_16 41 (dk_at dksX0_one_4 18 rfl rfl)
theorem dX0_one_112 : decode cX0_one 112 = .ok (.invokevirtual 245, 3) := dk_182 0 245 (dk_at dksX0_one_4 20 rfl rfl)
theorem dX0_one_115 : decode cX0_one 115 = .ok (.ifCond .ne 8, 3) := dk_154 0 8 (dk_at dksX0_one_5 0 rfl rfl)
theorem dX0_one_118 : decode cX0_one 118 = .ok (.aload_n 0, 1) := dk_42 (dk_at dksX0_one_5 3 rfl rfl)
theorem dX0_one_119 : decode cX0_one 119 = .ok (.getfield 188, 3) := dk_180 0 188 (dk_at dksX0_one_5 4 rfl rfl)
theorem dX0_one_122 : decode cX0_one 122 = .ok (.athrow, 1) := dk_191 (dk_at dksX0_one_5 7 rfl rfl)
theorem dX0_one_123 : decode cX0_one 123 = .ok (.aload_n 0, 1) := dk_42 (dk_at dksX0_one_5 8 rfl rfl)
theorem dX0_one_124 : decode cX0_one 124 = .ok (.dup, 1) := dk_89 (dk_at dksX0_one_5 9 rfl rfl)
theorem dX0_one_125 : decode cX0_one 125 = .ok (.getfield 212, 3) := dk_180 0 212 (dk_at dksX0_one_5 10 rfl rfl)
theorem dX0_one_128 : decode cX0_one 128 = .ok (.iconst 1, 1) := dk_4 (dk_at dksX0_one_5 13 rfl rfl)
theorem dX0_one_129 : decode cX0_one 129 = .ok (.isub, 1) := dk_100 (dk_at dksX0_one_5 14 rfl rfl)
theorem dX0_one_130 : decode cX0_one 130 = .ok (.putfield 212, 3) := dk_181 0 212 (dk_at dksX0_one_5 15 rfl rfl)
theorem dX0_one_133 : decode cX0_one 133 = .ok (.aload_n 0, 1) := dk_42 (dk_at dksX0_one_5 18 rfl rfl)
theorem dX0_one_134 : decode cX0_one 134 = .ok (.invokevirtual 209, 3) := dk_182 0 209 (dk_at dksX0_one_5 19 rfl rfl)
theorem dX0_one_137 : decode cX0_one 137 = .ok (.aload_n 2, 1) := dk_44 (dk_at dksX0_one_5 22 rfl rfl)
theorem dX0_one_138 : decode cX0_one 138 = .ok (.areturn, 1) := dk_176 (dk_at dksX0_one_5 23 rfl rfl)
abbrev cX0_isSign : ByteArray := prog_1_method_27_code
def yX0_isSign : MethodName := ⟨RX0, "isSign", "(I)Z"⟩
def dkwX0_isSign_0 : List UInt8 := [42, 180, 0, 162, 7, 160, 0, 15, 42, 180, 0, 178, 27, 160, 0, 7, 4, 167, 0, 4, 3, 172]
abbrev dktX0_isSign_0 : List UInt8 := dkwX0_isSign_0 ++ []
theorem dksX0_isSign_0 : cX0_isSign.data.toList.drop 0 = dktX0_isSign_0 := by decide +kernel
theorem dX0_isSign_0 : decode cX0_isSign 0 = .ok (.aload_n 0, 1) := dk_42 (dk_at dksX0_isSign_0 0 rfl rfl)
theorem dX0_isSign_1 : decode cX0_isSign 1 = .ok (.getfield 162, 3) := dk_180 0 162 (dk_at dksX0_isSign_0 1 rfl rfl)
theorem dX0_isSign_4 : decode cX0_isSign 4 = .ok (.iconst 4, 1) := dk_7 (dk_at dksX0_isSign_0 4 rfl rfl)
theorem dX0_isSign_5 : decode cX0_isSign 5 = .ok (.if_icmp .ne 15, 3) := dk_160 0 15 (dk_at dksX0_isSign_0 5 rfl rfl)
theorem dX0_isSign_8 : decode cX0_isSign 8 = .ok (.aload_n 0, 1) := dk_42 (dk_at dksX0_isSign_0 8 rfl rfl)
theorem dX0_isSign_9 : decode cX0_isSign 9 = .ok (.getfield 178, 3) := dk_180 0 178 (dk_at dksX0_isSign_0 9 rfl rfl)
theorem dX0_isSign_12 : decode cX0_isSign 12 = .ok (.iload_n 1, 1) := dk_27 (dk_at dksX0_isSign_0 12 rfl rfl)
theorem dX0_isSign_13 : decode cX0_isSign 13 = .ok (.if_icmp .ne 7, 3) := dk_160 0 7 (dk_at dksX0_isSign_0 13 rfl rfl)
theorem dX0_isSign_16 : decode cX0_isSign 16 = .ok (.iconst 1, 1) := dk_4 (dk_at dksX0_isSign_0 16 rfl rfl)
theorem dX0_isSign_17 : decode cX0_isSign 17 = .ok (.goto 4, 3) := dk_167 0 4 (dk_at dksX0_isSign_0 17 rfl rfl)
theorem dX0_isSign_20 : decode cX0_isSign 20 = .ok (.iconst 0, 1) := dk_3 (dk_at dksX0_isSign_0 20 rfl rfl)
theorem dX0_isSign_21 : decode cX0_isSign 21 = .ok (.ireturn, 1) := dk_172 (dk_at dksX0_isSign_0 21 rfl rfl)
abbrev cX0_init : ByteArray := prog_1_method_42_code
def yX0_init : MethodName := ⟨RX0, "<init>", "()V"⟩
def dkwX0_init_12 : List UInt8 := [181, 1, 86, 42, 19, 1, 90, 182, 1, 92, 177]
abbrev dktX0_init_12 : List UInt8 := dkwX0_init_12 ++ []
def dkwX0_init_11 : List UInt8 := [183, 1, 85, 83, 89, 5, 187, 1, 83, 89, 183, 1, 85, 83, 89, 6, 187, 1, 83, 89, 183, 1, 85, 83]
abbrev dktX0_init_11 : List UInt8 := dkwX0_init_11 ++ dktX0_init_12
def dkwX0_init_10 : List UInt8 := [181, 1, 80, 42, 7, 189, 1, 83, 89, 3, 187, 1, 83, 89, 183, 1, 85, 83, 89, 4, 187, 1, 83, 89]
abbrev dktX0_init_10 : List UInt8 := dkwX0_init_10 ++ dktX0_init_11
def dkwX0_init_9 : List UInt8 := [7, 197, 1, 60, 2, 181, 1, 74, 42, 5, 8, 197, 1, 60, 2, 181, 1, 77, 42, 6, 188, 10]
abbrev dktX0_init_9 : List UInt8 := dkwX0_init_9 ++ dktX0_init_10
def dkwX0_init_8 : List UInt8 := [181, 1, 65, 42, 16, 6, 7, 197, 1, 60, 2, 181, 1, 68, 42, 16, 6, 188, 10, 181, 1, 71, 42, 5]
abbrev dktX0_init_8 : List UInt8 := dkwX0_init_8 ++ dktX0_init_9
def dkwX0_init_7 : List UInt8 := [188, 10, 181, 1, 58, 42, 16, 6, 8, 197, 1, 60, 2, 181, 1, 62, 42, 16, 6, 7, 197, 1, 60, 2]
abbrev dktX0_init_7 : List UInt8 := dkwX0_init_7 ++ dktX0_init_8
def dkwX0_init_6 : List UInt8 := [83, 181, 0, 206, 42, 17, 0, 160, 188, 8, 181, 0, 141, 42, 16, 24, 188, 10, 181, 1, 55, 42, 16, 9]
abbrev dktX0_init_6 : List UInt8 := dkwX0_init_6 ++ dktX0_init_7
def dkwX0_init_5 : List UInt8 := [83, 89, 5, 19, 1, 50, 83, 89, 6, 19, 1, 51, 83, 89, 7, 19, 1, 52, 83, 89, 8, 19, 1, 53]
abbrev dktX0_init_5 : List UInt8 := dkwX0_init_5 ++ dktX0_init_6
def dkwX0_init_4 : List UInt8 := [19, 1, 45, 83, 181, 0, 198, 42, 16, 6, 189, 0, 184, 89, 3, 19, 1, 46, 83, 89, 4, 19, 1, 48]
abbrev dktX0_init_4 : List UInt8 := dkwX0_init_4 ++ dktX0_init_5
def dkwX0_init_3 : List UInt8 := [19, 1, 37, 83, 89, 5, 19, 1, 39, 83, 89, 6, 19, 1, 41, 83, 89, 7, 19, 1, 43, 83, 89, 8]
abbrev dktX0_init_3 : List UInt8 := dkwX0_init_3 ++ dktX0_init_4
def dkwX0_init_2 : List UInt8 := [16, 6, 189, 1, 33, 181, 1, 16, 42, 16, 6, 189, 0, 184, 89, 3, 19, 1, 35, 83, 89, 4]
abbrev dktX0_init_2 : List UInt8 := dkwX0_init_2 ++ dktX0_init_3
def dkwX0_init_1 : List UInt8 := [181, 0, 65, 42, 16, 24, 188, 10, 181, 0, 132, 42, 187, 1, 14, 89, 183, 1, 32, 181, 0, 188, 42]
abbrev dktX0_init_1 : List UInt8 := dkwX0_init_1 ++ dktX0_init_2
def dkwX0_init_0 : List UInt8 := [42, 183, 1, 28, 42, 8, 189, 0, 40, 181, 0, 47, 42, 7, 188, 10, 181, 0, 61, 42, 7, 188, 10]
abbrev dktX0_init_0 : List UInt8 := dkwX0_init_0 ++ dktX0_init_1
theorem dksX0_init_0 : cX0_init.data.toList.drop 0 = dktX0_init_0 := by decide +kernel
theorem dksX0_init_1 : cX0_init.data.toList.drop 23 = dktX0_init_1 := dk_seg dksX0_init_0 23 rfl rfl
theorem dksX0_init_2 : cX0_init.data.toList.drop 46 = dktX0_init_2 := dk_seg dksX0_init_1 23 rfl rfl
theorem dksX0_init_3 : cX0_init.data.toList.drop 68 = dktX0_init_3 := dk_seg dksX0_init_2 22 rfl rfl
theorem dksX0_init_4 : cX0_init.data.toList.drop 92 = dktX0_init_4 := dk_seg dksX0_init_3 24 rfl rfl
theorem dksX0_init_5 : cX0_init.data.toList.drop 116 = dktX0_init_5 := dk_seg dksX0_init_4 24 rfl rfl
theorem dksX0_init_6 : cX0_init.data.toList.drop 140 = dktX0_init_6 := dk_seg dksX0_init_5 24 rfl rfl
theorem dksX0_init_7 : cX0_init.data.toList.drop 164 = dktX0_init_7 := dk_seg dksX0_init_6 24 rfl rfl
theorem dksX0_init_8 : cX0_init.data.toList.drop 188 = dktX0_init_8 := dk_seg dksX0_init_7 24 rfl rfl
theorem dksX0_init_9 : cX0_init.data.toList.drop 212 = dktX0_init_9 := dk_seg dksX0_init_8 24 rfl rfl
theorem dksX0_init_10 : cX0_init.data.toList.drop 234 = dktX0_init_10 := dk_seg dksX0_init_9 22 rfl rfl
theorem dksX0_init_11 : cX0_init.data.toList.drop 258 = dktX0_init_11 := dk_seg dksX0_init_10 24 rfl rfl
theorem dksX0_init_12 : cX0_init.data.toList.drop 282 = dktX0_init_12 := dk_seg dksX0_init_11 24 rfl rfl
theorem dX0_init_0 : decode cX0_init 0 = .ok (.aload_n 0, 1) := dk_42 (dk_at dksX0_init_0 0 rfl rfl)
theorem dX0_init_1 : decode cX0_init 1 = .ok (.invokespecial 284, 3) := dk_183 1 28 (dk_at dksX0_init_0 1 rfl rfl)
theorem dX0_init_4 : decode cX0_init 4 = .ok (.aload_n 0, 1) := dk_42 (dk_at dksX0_init_0 4 rfl rfl)
theorem dX0_init_5 : decode cX0_init 5 = .ok (.iconst 5, 1) := dk_8 (dk_at dksX0_init_0 5 rfl rfl)
theorem dX0_init_6 : decode cX0_init 6 = .ok (.anewarray 40, 3) := dk_189 0 40 (dk_at dksX0_init_0 6 rfl rfl)
theorem dX0_init_9 : decode cX0_init 9 = .ok (.putfield 47, 3) := dk_181 0 47 (dk_at dksX0_init_0 9 rfl rfl)
theorem dX0_init_12 : decode cX0_init 12 = .ok (.aload_n 0, 1) := dk_42 (dk_at dksX0_init_0 12 rfl rfl)
theorem dX0_init_13 : decode cX0_init 13 = .ok (.iconst 4, 1) := dk_7 (dk_at dksX0_init_0 13 rfl rfl)
theorem dX0_init_14 : decode cX0_init 14 = .ok (.newarray .int, 2) := dk_188_10 (dk_at dksX0_init_0 14 rfl rfl)
theorem dX0_init_16 : decode cX0_init 16 = .ok (.putfield 61, 3) := dk_181 0 61 (dk_at dksX0_init_0 16 rfl rfl)
theorem dX0_init_19 : decode cX0_init 19 = .ok (.aload_n 0, 1) := dk_42 (dk_at dksX0_init_0 19 rfl rfl)
theorem dX0_init_20 : decode cX0_init 20 = .ok (.iconst 4, 1) := dk_7 (dk_at dksX0_init_0 20 rfl rfl)
theorem dX0_init_21 : decode cX0_init 21 = .ok (.newarray .int, 2) := dk_188_10 (dk_at dksX0_init_0 21 rfl rfl)
theorem dX0_init_23 : decode cX0_init 23 = .ok (.putfield 65, 3) := dk_181 0 65 (dk_at dksX0_init_1 0 rfl rfl)
theorem dX0_init_26 : decode cX0_init 26 = .ok (.aload_n 0, 1) := dk_42 (dk_at dksX0_init_1 3 rfl rfl)
theorem dX0_init_27 : decode cX0_init 27 = .ok (.bipush 24, 2) := dk_16 24 (dk_at dksX0_init_1 4 rfl rfl)
theorem dX0_init_29 : decode cX0_init 29 = .ok (.newarray .int, 2) := dk_188_10 (dk_at dksX0_init_1 6 rfl rfl)
theorem dX0_init_31 : decode cX0_init 31 = .ok (.putfield 132, 3) := dk_181 0 132 (dk_at dksX0_init_1 8 rfl rfl)
theorem dX0_init_34 : decode cX0_init 34 = .ok (.aload_n 0, 1) := dk_42 (dk_at dksX0_init_1 11 rfl rfl)
theorem dX0_init_35 : decode cX0_init 35 = .ok (.new 270, 3) := dk_187 1 14 (dk_at dksX0_init_1 12 rfl rfl)
theorem dX0_init_38 : decode cX0_init 38 = .ok (.dup, 1) := dk_89 (dk_at dksX0_init_1 15 rfl rfl)
theorem dX0_init_39 : decode cX0_init 39 = .ok (.invokespecial 288, 3) := dk_183 1 32 (dk_at dksX0_init_1 16 rfl rfl)
theorem dX0_init_42 : decode cX0_init 42 = .ok (.putfield 188, 3) := dk_181 0 188 (dk_at dksX0_init_1 19 rfl rfl)
theorem dX0_init_45 : decode cX0_init 45 = .ok (.aload_n 0, 1) := dk_42 (dk_at dksX0_init_1 22 rfl rfl)
theorem dX0_init_46 : decode cX0_init 46 = .ok (.bipush 6, 2) := dk_16 6 (dk_at dksX0_init_2 0 rfl rfl)
theorem dX0_init_48 : decode cX0_init 48 = .ok (.anewarray 289, 3) := dk_189 1 33 (dk_at dksX0_init_2 2 rfl rfl)
theorem dX0_init_51 : decode cX0_init 51 = .ok (.putfield 272, 3) := dk_181 1 16 (dk_at dksX0_init_2 5 rfl rfl)
theorem dX0_init_54 : decode cX0_init 54 = .ok (.aload_n 0, 1) := dk_42 (dk_at dksX0_init_2 8 rfl rfl)
theorem dX0_init_55 : decode cX0_init 55 = .ok (.bipush 6, 2) := dk_16 6 (dk_at dksX0_init_2 9 rfl rfl)
theorem dX0_init_57 : decode cX0_init 57 = .ok (.anewarray 184, 3) := dk_189 0 184 (dk_at dksX0_init_2 11 rfl rfl)
theorem dX0_init_60 : decode cX0_init 60 = .ok (.dup, 1) := dk_89 (dk_at dksX0_init_2 14 rfl rfl)
theorem dX0_init_61 : decode cX0_init 61 = .ok (.iconst 0, 1) := dk_3 (dk_at dksX0_init_2 15 rfl rfl)
theorem dX0_init_62 : decode cX0_init 62 = .ok (.ldc_w 291, 3) := dk_19 1 35 (dk_at dksX0_init_2 16 rfl rfl)
theorem dX0_init_65 : decode cX0_init 65 = .ok (.aastore, 1) := dk_83 (dk_at dksX0_init_2 19 rfl rfl)
theorem dX0_init_66 : decode cX0_init 66 = .ok (.dup, 1) := dk_89 (dk_at dksX0_init_2 20 rfl rfl)
theorem dX0_init_67 : decode cX0_init 67 = .ok (.iconst 1, 1) := dk_4 (dk_at dksX0_init_2 21 rfl rfl)
theorem dX0_init_68 : decode cX0_init 68 = .ok (.ldc_w 293, 3) := dk_19 1 37 (dk_at dksX0_init_3 0 rfl rfl)
theorem dX0_init_71 : decode cX0_init 71 = .ok (.aastore, 1) := dk_83 (dk_at dksX0_init_3 3 rfl rfl)
theorem dX0_init_72 : decode cX0_init 72 = .ok (.dup, 1) := dk_89 (dk_at dksX0_init_3 4 rfl rfl)
theorem dX0_init_73 : decode cX0_init 73 = .ok (.iconst 2, 1) := dk_5 (dk_at dksX0_init_3 5 rfl rfl)
theorem dX0_init_74 : decode cX0_init 74 = .ok (.ldc_w 295, 3) := dk_19 1 39 (dk_at dksX0_init_3 6 rfl rfl)
theorem dX0_init_77 : decode cX0_init 77 = .ok (.aastore, 1) := dk_83 (dk_at dksX0_init_3 9 rfl rfl)
theorem dX0_init_78 : decode cX0_init 78 = .ok (.dup, 1) := dk_89 (dk_at dksX0_init_3 10 rfl rfl)
theorem dX0_init_79 : decode cX0_init 79 = .ok (.iconst 3, 1) := dk_6 (dk_at dksX0_init_3 11 rfl rfl)
theorem dX0_init_80 : decode cX0_init 80 = .ok (.ldc_w 297, 3) := dk_19 1 41 (dk_at dksX0_init_3 12 rfl rfl)
theorem dX0_init_83 : decode cX0_init 83 = .ok (.aastore, 1) := dk_83 (dk_at dksX0_init_3 15 rfl rfl)
theorem dX0_init_84 : decode cX0_init 84 = .ok (.dup, 1) := dk_89 (dk_at dksX0_init_3 16 rfl rfl)
theorem dX0_init_85 : decode cX0_init 85 = .ok (.iconst 4, 1) := dk_7 (dk_at dksX0_init_3 17 rfl rfl)
theorem dX0_init_86 : decode cX0_init 86 = .ok (.ldc_w 299, 3) := dk_19 1 43 (dk_at dksX0_init_3 18 rfl rfl)
theorem dX0_init_89 : decode cX0_init 89 = .ok (.aastore, 1) := dk_83 (dk_at dksX0_init_3 21 rfl rfl)
theorem dX0_init_90 : decode cX0_init 90 = .ok (.dup, 1) := dk_89 (dk_at dksX0_init_3 22 rfl rfl)
theorem dX0_init_91 : decode cX0_init 91 = .ok (.iconst 5, 1) := dk_8 (dk_at dksX0_init_3 23 rfl rfl)
theorem dX0_init_92 : decode cX0_init 92 = .ok (.ldc_w 301, 3) := dk_19 1 45 (dk_at dksX0_init_4 0 rfl rfl)
theorem dX0_init_95 : decode cX0_init 95 = .ok (.aastore, 1) := dk_83 (dk_at dksX0_init_4 3 rfl rfl)
theorem dX0_init_96 : decode cX0_init 96 = .ok (.putfield 198, 3) := dk_181 0 198 (dk_at dksX0_init_4 4 rfl rfl)
theorem dX0_init_99 : decode cX0_init 99 = .ok (.aload_n 0, 1) := dk_42 (dk_at dksX0_init_4 7 rfl rfl)
theorem dX0_init_100 : decode cX0_init 100 = .ok (.bipush 6, 2) := dk_16 6 (dk_at dksX0_init_4 8 rfl rfl)
theorem dX0_init_102 : decode cX0_init 102 = .ok (.anewarray 184, 3) := dk_189 0 184 (dk_at dksX0_init_4 10 rfl rfl)
theorem dX0_init_105 : decode cX0_init 105 = .ok (.dup, 1) := dk_89 (dk_at dksX0_init_4 13 rfl rfl)
theorem dX0_init_106 : decode cX0_init 106 = .ok (.iconst 0, 1) := dk_3 (dk_at dksX0_init_4 14 rfl rfl)
theorem dX0_init_107 : decode cX0_init 107 = .ok (.ldc_w 302, 3) := dk_19 1 46 (dk_at dksX0_init_4 15 rfl rfl)
theorem dX0_init_110 : decode cX0_init 110 = .ok (.aastore, 1) := dk_83 (dk_at dksX0_init_4 18 rfl rfl)
theorem dX0_init_111 : decode cX0_init 111 = .ok (.dup, 1) := dk_89 (dk_at dksX0_init_4 19 rfl rfl)
theorem dX0_init_112 : decode cX0_init 112 = .ok (.iconst 1, 1) := dk_4 (dk_at dksX0_init_4 20 rfl rfl)
theorem dX0_init_113 : decode cX0_init 113 = .ok (.ldc_w 304, 3) := dk_19 1 48 (dk_at dksX0_init_4 21 rfl rfl)
theorem dX0_init_116 : decode cX0_init 116 = .ok (.aastore, 1) := dk_83 (dk_at dksX0_init_5 0 rfl rfl)
theorem dX0_init_117 : decode cX0_init 117 = .ok (.dup, 1) := dk_89 (dk_at dksX0_init_5 1 rfl rfl)
theorem dX0_init_118 : decode cX0_init 118 = .ok (.iconst 2, 1) := dk_5 (dk_at dksX0_init_5 2 rfl rfl)
theorem dX0_init_119 : decode cX0_init 119 = .ok (.ldc_w 306, 3) := dk_19 1 50 (dk_at dksX0_init_5 3 rfl rfl)
theorem dX0_init_122 : decode cX0_init 122 = .ok (.aastore, 1) := dk_83 (dk_at dksX0_init_5 6 rfl rfl)
theorem dX0_init_123 : decode cX0_init 123 = .ok (.dup, 1) := dk_89 (dk_at dksX0_init_5 7 rfl rfl)
theorem dX0_init_124 : decode cX0_init 124 = .ok (.iconst 3, 1) := dk_6 (dk_at dksX0_init_5 8 rfl rfl)
theorem dX0_init_125 : decode cX0_init 125 = .ok (.ldc_w 307, 3) := dk_19 1 51 (dk_at dksX0_init_5 9 rfl rfl)
theorem dX0_init_128 : decode cX0_init 128 = .ok (.aastore, 1) := dk_83 (dk_at dksX0_init_5 12 rfl rfl)
theorem dX0_init_129 : decode cX0_init 129 = .ok (.dup, 1) := dk_89 (dk_at dksX0_init_5 13 rfl rfl)
theorem dX0_init_130 : decode cX0_init 130 = .ok (.iconst 4, 1) := dk_7 (dk_at dksX0_init_5 14 rfl rfl)
theorem dX0_init_131 : decode cX0_init 131 = .ok (.ldc_w 308, 3) := dk_19 1 52 (dk_at dksX0_init_5 15 rfl rfl)
theorem dX0_init_134 : decode cX0_init 134 = .ok (.aastore, 1) := dk_83 (dk_at dksX0_init_5 18 rfl rfl)
theorem dX0_init_135 : decode cX0_init 135 = .ok (.dup, 1) := dk_89 (dk_at dksX0_init_5 19 rfl rfl)
theorem dX0_init_136 : decode cX0_init 136 = .ok (.iconst 5, 1) := dk_8 (dk_at dksX0_init_5 20 rfl rfl)
theorem dX0_init_137 : decode cX0_init 137 = .ok (.ldc_w 309, 3) := dk_19 1 53 (dk_at dksX0_init_5 21 rfl rfl)
theorem dX0_init_140 : decode cX0_init 140 = .ok (.aastore, 1) := dk_83 (dk_at dksX0_init_6 0 rfl rfl)
theorem dX0_init_141 : decode cX0_init 141 = .ok (.putfield 206, 3) := dk_181 0 206 (dk_at dksX0_init_6 1 rfl rfl)
theorem dX0_init_144 : decode cX0_init 144 = .ok (.aload_n 0, 1) := dk_42 (dk_at dksX0_init_6 4 rfl rfl)
theorem dX0_init_145 : decode cX0_init 145 = .ok (.sipush 160, 3) := dk_17 0 160 (dk_at dksX0_init_6 5 rfl rfl)
theorem dX0_init_148 : decode cX0_init 148 = .ok (.newarray .byte, 2) := dk_188_8 (dk_at dksX0_init_6 8 rfl rfl)
theorem dX0_init_150 : decode cX0_init 150 = .ok (.putfield 141, 3) := dk_181 0 141 (dk_at dksX0_init_6 10 rfl rfl)
theorem dX0_init_153 : decode cX0_init 153 = .ok (.aload_n 0, 1) := dk_42 (dk_at dksX0_init_6 13 rfl rfl)
theorem dX0_init_154 : decode cX0_init 154 = .ok (.bipush 24, 2) := dk_16 24 (dk_at dksX0_init_6 14 rfl rfl)
theorem dX0_init_156 : decode cX0_init 156 = .ok (.newarray .int, 2) := dk_188_10 (dk_at dksX0_init_6 16 rfl rfl)
theorem dX0_init_158 : decode cX0_init 158 = .ok (.putfield 311, 3) := dk_181 1 55 (dk_at dksX0_init_6 18 rfl rfl)
theorem dX0_init_161 : decode cX0_init 161 = .ok (.aload_n 0, 1) := dk_42 (dk_at dksX0_init_6 21 rfl rfl)
theorem dX0_init_162 : decode cX0_init 162 = .ok (.bipush 9, 2) := dk_16 9 (dk_at dksX0_init_6 22 rfl rfl)
theorem dX0_init_164 : decode cX0_init 164 = .ok (.newarray .int, 2) := dk_188_10 (dk_at dksX0_init_7 0 rfl rfl)
theorem dX0_init_166 : decode cX0_init 166 = .ok (.putfield 314, 3) := dk_181 1 58 (dk_at dksX0_init_7 2 rfl rfl)
theorem dX0_init_169 : decode cX0_init 169 = .ok (.aload_n 0, 1) := dk_42 (dk_at dksX0_init_7 5 rfl rfl)
theorem dX0_init_170 : decode cX0_init 170 = .ok (.bipush 6, 2) := dk_16 6 (dk_at dksX0_init_7 6 rfl rfl)
theorem dX0_init_172 : decode cX0_init 172 = .ok (.iconst 5, 1) := dk_8 (dk_at dksX0_init_7 8 rfl rfl)
theorem dX0_init_173 : decode cX0_init 173 = .ok (.multianewarray 316 2, 4) := by decide +kernel
theorem dX0_init_177 : decode cX0_init 177 = .ok (.putfield 318, 3) := dk_181 1 62 (dk_at dksX0_init_7 13 rfl rfl)
theorem dX0_init_180 : decode cX0_init 180 = .ok (.aload_n 0, 1) := dk_42 (dk_at dksX0_init_7 16 rfl rfl)
theorem dX0_init_181 : decode cX0_init 181 = .ok (.bipush 6, 2) := dk_16 6 (dk_at dksX0_init_7 17 rfl rfl)
theorem dX0_init_183 : decode cX0_init 183 = .ok (.iconst 4, 1) := dk_7 (dk_at dksX0_init_7 19 rfl rfl)
theorem dX0_init_184 : decode cX0_init 184 = .ok (.multianewarray 316 2, 4) := by decide +kernel
theorem dX0_init_188 : decode cX0_init 188 = .ok (.putfield 321, 3) := dk_181 1 65 (dk_at dksX0_init_8 0 rfl rfl)
theorem dX0_init_191 : decode cX0_init 191 = .ok (.aload_n 0, 1) := dk_42 (dk_at dksX0_init_8 3 rfl rfl)
theorem dX0_init_192 : decode cX0_init 192 = .ok (.bipush 6, 2) := dk_16 6 (dk_at dksX0_init_8 4 rfl rfl)
theorem dX0_init_194 : decode cX0_init 194 = .ok (.iconst 4, 1) := dk_7 (dk_at dksX0_init_8 6 rfl rfl)
theorem dX0_init_195 : decode cX0_init 195 = .ok (.multianewarray 316 2, 4) := by decide +kernel
theorem dX0_init_199 : decode cX0_init 199 = .ok (.putfield 324, 3) := dk_181 1 68 (dk_at dksX0_init_8 11 rfl rfl)
theorem dX0_init_202 : decode cX0_init 202 = .ok (.aload_n 0, 1) := dk_42 (dk_at dksX0_init_8 14 rfl rfl)
theorem dX0_init_203 : decode cX0_init 203 = .ok (.bipush 6, 2) := dk_16 6 (dk_at dksX0_init_8 15 rfl rfl)
theorem dX0_init_205 : decode cX0_init 205 = .ok (.newarray .int, 2) := dk_188_10 (dk_at dksX0_init_8 17 rfl rfl)
theorem dX0_init_207 : decode cX0_init 207 = .ok (.putfield 327, 3) := dk_181 1 71 (dk_at dksX0_init_8 19 rfl rfl)
theorem dX0_init_210 : decode cX0_init 210 = .ok (.aload_n 0, 1) := dk_42 (dk_at dksX0_init_8 22 rfl rfl)
theorem dX0_init_211 : decode cX0_init 211 = .ok (.iconst 2, 1) := dk_5 (dk_at dksX0_init_8 23 rfl rfl)
theorem dX0_init_212 : decode cX0_init 212 = .ok (.iconst 4, 1) := dk_7 (dk_at dksX0_init_9 0 rfl rfl)
theorem dX0_init_213 : decode cX0_init 213 = .ok (.multianewarray 316 2, 4) := by decide +kernel
theorem dX0_init_217 : decode cX0_init 217 = .ok (.putfield 330, 3) := dk_181 1 74 (dk_at dksX0_init_9 5 rfl rfl)
theorem dX0_init_220 : decode cX0_init 220 = .ok (.aload_n 0, 1) := dk_42 (dk_at dksX0_init_9 8 rfl rfl)
theorem dX0_init_221 : decode cX0_init 221 = .ok (.iconst 2, 1) := dk_5 (dk_at dksX0_init_9 9 rfl rfl)
theorem dX0_init_222 : decode cX0_init 222 = .ok (.iconst 5, 1) := dk_8 (dk_at dksX0_init_9 10 rfl rfl)
theorem dX0_init_223 : decode cX0_init 223 = .ok (.multianewarray 316 2, 4) := by decide +kernel
theorem dX0_init_227 : decode cX0_init 227 = .ok (.putfield 333, 3) := dk_181 1 77 (dk_at dksX0_init_9 15 rfl rfl)
theorem dX0_init_230 : decode cX0_init 230 = .ok (.aload_n 0, 1) := dk_42 (dk_at dksX0_init_9 18 rfl rfl)
theorem dX0_init_231 : decode cX0_init 231 = .ok (.iconst 3, 1) := dk_6 (dk_at dksX0_init_9 19 rfl rfl)
theorem dX0_init_232 : decode cX0_init 232 = .ok (.newarray .int, 2) := dk_188_10 (dk_at dksX0_init_9 20 rfl rfl)
theorem dX0_init_234 : decode cX0_init 234 = .ok (.putfield 336, 3) := dk_181 1 80 (dk_at dksX0_init_10 0 rfl rfl)
theorem dX0_init_237 : decode cX0_init 237 = .ok (.aload_n 0, 1) := dk_42 (dk_at dksX0_init_10 3 rfl rfl)
theorem dX0_init_238 : decode cX0_init 238 = .ok (.iconst 4, 1) := dk_7 (dk_at dksX0_init_10 4 rfl rfl)
theorem dX0_init_239 : decode cX0_init 239 = .ok (.anewarray 339, 3) := dk_189 1 83 (dk_at dksX0_init_10 5 rfl rfl)
theorem dX0_init_242 : decode cX0_init 242 = .ok (.dup, 1) := dk_89 (dk_at dksX0_init_10 8 rfl rfl)
theorem dX0_init_243 : decode cX0_init 243 = .ok (.iconst 0, 1) := dk_3 (dk_at dksX0_init_10 9 rfl rfl)
theorem dX0_init_244 : decode cX0_init 244 = .ok (.new 339, 3) := dk_187 1 83 (dk_at dksX0_init_10 10 rfl rfl)
theorem dX0_init_247 : decode cX0_init 247 = .ok (.dup, 1) := dk_89 (dk_at dksX0_init_10 13 rfl rfl)
theorem dX0_init_248 : decode cX0_init 248 = .ok (.invokespecial 341, 3) := dk_183 1 85 (dk_at dksX0_init_10 14 rfl rfl)
theorem dX0_init_251 : decode cX0_init 251 = .ok (.aastore, 1) := dk_83 (dk_at dksX0_init_10 17 rfl rfl)
theorem dX0_init_252 : decode cX0_init 252 = .ok (.dup, 1) := dk_89 (dk_at dksX0_init_10 18 rfl rfl)
theorem dX0_init_253 : decode cX0_init 253 = .ok (.iconst 1, 1) := dk_4 (dk_at dksX0_init_10 19 rfl rfl)
theorem dX0_init_254 : decode cX0_init 254 = .ok (.new 339, 3) := dk_187 1 83 (dk_at dksX0_init_10 20 rfl rfl)
theorem dX0_init_257 : decode cX0_init 257 = .ok (.dup, 1) := dk_89 (dk_at dksX0_init_10 23 rfl rfl)
theorem dX0_init_258 : decode cX0_init 258 = .ok (.invokespecial 341, 3) := dk_183 1 85 (dk_at dksX0_init_11 0 rfl rfl)
theorem dX0_init_261 : decode cX0_init 261 = .ok (.aastore, 1) := dk_83 (dk_at dksX0_init_11 3 rfl rfl)
theorem dX0_init_262 : decode cX0_init 262 = .ok (.dup, 1) := dk_89 (dk_at dksX0_init_11 4 rfl rfl)
theorem dX0_init_263 : decode cX0_init 263 = .ok (.iconst 2, 1) := dk_5 (dk_at dksX0_init_11 5 rfl rfl)
theorem dX0_init_264 : decode cX0_init 264 = .ok (.new 339, 3) := dk_187 1 83 (dk_at dksX0_init_11 6 rfl rfl)
theorem dX0_init_267 : decode cX0_init 267 = .ok (.dup, 1) := dk_89 (dk_at dksX0_init_11 9 rfl rfl)
theorem dX0_init_268 : decode cX0_init 268 = .ok (.invokespecial 341, 3) := dk_183 1 85 (dk_at dksX0_init_11 10 rfl rfl)
theorem dX0_init_271 : decode cX0_init 271 = .ok (.aastore, 1) := dk_83 (dk_at dksX0_init_11 13 rfl rfl)
theorem dX0_init_272 : decode cX0_init 272 = .ok (.dup, 1) := dk_89 (dk_at dksX0_init_11 14 rfl rfl)
theorem dX0_init_273 : decode cX0_init 273 = .ok (.iconst 3, 1) := dk_6 (dk_at dksX0_init_11 15 rfl rfl)
theorem dX0_init_274 : decode cX0_init 274 = .ok (.new 339, 3) := dk_187 1 83 (dk_at dksX0_init_11 16 rfl rfl)
theorem dX0_init_277 : decode cX0_init 277 = .ok (.dup, 1) := dk_89 (dk_at dksX0_init_11 19 rfl rfl)
theorem dX0_init_278 : decode cX0_init 278 = .ok (.invokespecial 341, 3) := dk_183 1 85 (dk_at dksX0_init_11 20 rfl rfl)
theorem dX0_init_281 : decode cX0_init 281 = .ok (.aastore, 1) := dk_83 (dk_at dksX0_init_11 23 rfl rfl)
theorem dX0_init_282 : decode cX0_init 282 = .ok (.putfield 342, 3) := dk_181 1 86 (dk_at dksX0_init_12 0 rfl rfl)
theorem dX0_init_285 : decode cX0_init 285 = .ok (.aload_n 0, 1) := dk_42 (dk_at dksX0_init_12 3 rfl rfl)
theorem dX0_init_286 : decode cX0_init 286 = .ok (.ldc_w 346, 3) := dk_19 1 90 (dk_at dksX0_init_12 4 rfl rfl)
theorem dX0_init_289 : decode cX0_init 289 = .ok (.invokevirtual 348, 3) := dk_182 1 92 (dk_at dksX0_init_12 7 rfl rfl)
theorem dX0_init_292 : decode cX0_init 292 = .ok (.return_, 1) := dk_177 (dk_at dksX0_init_12 10 rfl rfl)
abbrev cX0_firstText : ByteArray := prog_1_method_38_code
def yX0_firstText : MethodName := ⟨RX0, "firstText", "(Ljava/lang/String;)V"⟩
def dkwX0_firstText_1 : List UInt8 := [132, 2, 1, 167, 255, 233, 42, 43, 182, 0, 192, 181, 1, 9, 42, 182, 1, 23, 61, 177]
abbrev dktX0_firstText_1 : List UInt8 := dkwX0_firstText_1 ++ []
def dkwX0_firstText_0 : List UInt8 := [3, 61, 28, 43, 182, 0, 192, 162, 0, 21, 42, 180, 0, 141, 28, 43, 28, 182, 0, 194, 145, 84]
abbrev dktX0_firstText_0 : List UInt8 := dkwX0_firstText_0 ++ dktX0_firstText_1
theorem dksX0_firstText_0 : cX0_firstText.data.toList.drop 0 = dktX0_firstText_0 := by decide +kernel
theorem dksX0_firstText_1 : cX0_firstText.data.toList.drop 22 = dktX0_firstText_1 := dk_seg dksX0_firstText_0 22 rfl rfl
theorem dX0_firstText_0 : decode cX0_firstText 0 = .ok (.iconst 0, 1) := dk_3 (dk_at dksX0_firstText_0 0 rfl rfl)
theorem dX0_firstText_1 : decode cX0_firstText 1 = .ok (.istore_n 2, 1) := dk_61 (dk_at dksX0_firstText_0 1 rfl rfl)
theorem dX0_firstText_2 : decode cX0_firstText 2 = .ok (.iload_n 2, 1) := dk_28 (dk_at dksX0_firstText_0 2 rfl rfl)
theorem dX0_firstText_3 : decode cX0_firstText 3 = .ok (.aload_n 1, 1) := dk_43 (dk_at dksX0_firstText_0 3 rfl rfl)
theorem dX0_firstText_4 : decode cX0_firstText 4 = .ok (.invokevirtual 192, 3) := dk_182 0 192 (dk_at dksX0_firstText_0 4 rfl rfl)
theorem dX0_firstText_7 : decode cX0_firstText 7 = .ok (.if_icmp .ge 21, 3) := dk_162 0 21 (dk_at dksX0_firstText_0 7 rfl rfl)
theorem dX0_firstText_10 : decode cX0_firstText 10 = .ok (.aload_n 0, 1) := dk_42 (dk_at dksX0_firstText_0 10 rfl rfl)
theorem dX0_firstText_11 : decode cX0_firstText 11 = .ok (.getfield 141, 3) := dk_180 0 141 (dk_at dksX0_firstText_0 11 rfl rfl)
theorem dX0_firstText_14 : decode cX0_firstText 14 = .ok (.iload_n 2, 1) := dk_28 (dk_at dksX0_firstText_0 14 rfl rfl)
theorem dX0_firstText_15 : decode cX0_firstText 15 = .ok (.aload_n 1, 1) := dk_43 (dk_at dksX0_firstText_0 15 rfl rfl)
theorem dX0_firstText_16 : decode cX0_firstText 16 = .ok (.iload_n 2, 1) := dk_28 (dk_at dksX0_firstText_0 16 rfl rfl)
theorem dX0_firstText_17 : decode cX0_firstText 17 = .ok (.invokevirtual 194, 3) := dk_182 0 194 (dk_at dksX0_firstText_0 17 rfl rfl)
theorem dX0_firstText_20 : decode cX0_firstText 20 = .ok (.i2b, 1) := dk_145 (dk_at dksX0_firstText_0 20 rfl rfl)
theorem dX0_firstText_21 : decode cX0_firstText 21 = .ok (.bastore, 1) := dk_84 (dk_at dksX0_firstText_0 21 rfl rfl)
theorem dX0_firstText_22 : decode cX0_firstText 22 = .ok (.iinc 2 1, 3) := dk_132 2 1 (dk_at dksX0_firstText_1 0 rfl rfl)
theorem dX0_firstText_25 : decode cX0_firstText 25 = .ok (.goto (-23), 3) := dk_167 255 233 (dk_at dksX0_firstText_1 3 rfl rfl)
theorem dX0_firstText_28 : decode cX0_firstText 28 = .ok (.aload_n 0, 1) := dk_42 (dk_at dksX0_firstText_1 6 rfl rfl)
theorem dX0_firstText_29 : decode cX0_firstText 29 = .ok (.aload_n 1, 1) := dk_43 (dk_at dksX0_firstText_1 7 rfl rfl)
theorem dX0_firstText_30 : decode cX0_firstText 30 = .ok (.invokevirtual 192, 3) := dk_182 0 192 (dk_at dksX0_firstText_1 8 rfl rfl)
theorem dX0_firstText_33 : decode cX0_firstText 33 = .ok (.putfield 265, 3) := dk_181 1 9 (dk_at dksX0_firstText_1 11 rfl rfl)
theorem dX0_firstText_36 : decode cX0_firstText 36 = .ok (.aload_n 0, 1) := dk_42 (dk_at dksX0_firstText_1 14 rfl rfl)
theorem dX0_firstText_37 : decode cX0_firstText 37 = .ok (.invokevirtual 279, 3) := dk_182 1 23 (dk_at dksX0_firstText_1 15 rfl rfl)
theorem dX0_firstText_40 : decode cX0_firstText 40 = .ok (.istore_n 2, 1) := dk_61 (dk_at dksX0_firstText_1 18 rfl rfl)
theorem dX0_firstText_41 : decode cX0_firstText 41 = .ok (.return_, 1) := dk_177 (dk_at dksX0_firstText_1 19 rfl rfl)
abbrev cX0_force : ByteArray := prog_1_method_43_code
def yX0_force : MethodName := ⟨RX0, "force", "(I)I"⟩
def dkwX0_force_0 : List UInt8 := [42, 27, 182, 1, 96, 154, 0, 6, 16, 254, 172, 42, 180, 1, 99, 61, 42, 27, 181, 1, 99, 28, 172]
abbrev dktX0_force_0 : List UInt8 := dkwX0_force_0 ++ []
theorem dksX0_force_0 : cX0_force.data.toList.drop 0 = dktX0_force_0 := by decide +kernel
theorem dX0_force_0 : decode cX0_force 0 = .ok (.aload_n 0, 1) := dk_42 (dk_at dksX0_force_0 0 rfl rfl)
theorem dX0_force_1 : decode cX0_force 1 = .ok (.iload_n 1, 1) := dk_27 (dk_at dksX0_force_0 1 rfl rfl)
theorem dX0_force_2 : decode cX0_force 2 = .ok (.invokevirtual 352, 3) := dk_182 1 96 (dk_at dksX0_force_0 2 rfl rfl)
theorem dX0_force_5 : decode cX0_force 5 = .ok (.ifCond .ne 6, 3) := dk_154 0 6 (dk_at dksX0_force_0 5 rfl rfl)
theorem dX0_force_8 : decode cX0_force 8 = .ok (.bipush (-2), 2) := dk_16 254 (dk_at dksX0_force_0 8 rfl rfl)
theorem dX0_force_10 : decode cX0_force 10 = .ok (.ireturn, 1) := dk_172 (dk_at dksX0_force_0 10 rfl rfl)
theorem dX0_force_11 : decode cX0_force 11 = .ok (.aload_n 0, 1) := dk_42 (dk_at dksX0_force_0 11 rfl rfl)
theorem dX0_force_12 : decode cX0_force 12 = .ok (.getfield 355, 3) := dk_180 1 99 (dk_at dksX0_force_0 12 rfl rfl)
theorem dX0_force_15 : decode cX0_force 15 = .ok (.istore_n 2, 1) := dk_61 (dk_at dksX0_force_0 15 rfl rfl)
theorem dX0_force_16 : decode cX0_force 16 = .ok (.aload_n 0, 1) := dk_42 (dk_at dksX0_force_0 16 rfl rfl)
theorem dX0_force_17 : decode cX0_force 17 = .ok (.iload_n 1, 1) := dk_27 (dk_at dksX0_force_0 17 rfl rfl)
theorem dX0_force_18 : decode cX0_force 18 = .ok (.putfield 355, 3) := dk_181 1 99 (dk_at dksX0_force_0 18 rfl rfl)
theorem dX0_force_21 : decode cX0_force 21 = .ok (.iload_n 2, 1) := dk_28 (dk_at dksX0_force_0 21 rfl rfl)
theorem dX0_force_22 : decode cX0_force 22 = .ok (.ireturn, 1) := dk_172 (dk_at dksX0_force_0 22 rfl rfl)
abbrev cX0_isText : ByteArray := prog_1_method_41_code
def yX0_isText : MethodName := ⟨RX0, "isText", "(I)Z"⟩
def dkwX0_isText_0 : List UInt8 := [27, 133, 9, 42, 180, 1, 20, 4, 100, 133, 184, 0, 14, 172]
abbrev dktX0_isText_0 : List UInt8 := dkwX0_isText_0 ++ []
theorem dksX0_isText_0 : cX0_isText.data.toList.drop 0 = dktX0_isText_0 := by decide +kernel
theorem dX0_isText_0 : decode cX0_isText 0 = .ok (.iload_n 1, 1) := dk_27 (dk_at dksX0_isText_0 0 rfl rfl)
theorem dX0_isText_1 : decode cX0_isText 1 = .ok (.i2l, 1) := dk_133 (dk_at dksX0_isText_0 1 rfl rfl)
theorem dX0_isText_2 : decode cX0_isText 2 = .ok (.lconst 0, 1) := dk_9 (dk_at dksX0_isText_0 2 rfl rfl)
theorem dX0_isText_3 : decode cX0_isText 3 = .ok (.aload_n 0, 1) := dk_42 (dk_at dksX0_isText_0 3 rfl rfl)
theorem dX0_isText_4 : decode cX0_isText 4 = .ok (.getfield 276, 3) := dk_180 1 20 (dk_at dksX0_isText_0 4 rfl rfl)
theorem dX0_isText_7 : decode cX0_isText 7 = .ok (.iconst 1, 1) := dk_4 (dk_at dksX0_isText_0 7 rfl rfl)
theorem dX0_isText_8 : decode cX0_isText 8 = .ok (.isub, 1) := dk_100 (dk_at dksX0_isText_0 8 rfl rfl)
theorem dX0_isText_9 : decode cX0_isText 9 = .ok (.i2l, 1) := dk_133 (dk_at dksX0_isText_0 9 rfl rfl)
theorem dX0_isText_10 : decode cX0_isText 10 = .ok (.invokestatic 14, 3) := dk_184 0 14 (dk_at dksX0_isText_0 10 rfl rfl)
theorem dX0_isText_13 : decode cX0_isText 13 = .ok (.ireturn, 1) := dk_172 (dk_at dksX0_isText_0 13 rfl rfl)
abbrev cX0_asks : ByteArray := prog_1_method_49_code
def yX0_asks : MethodName := ⟨RX0, "asks", "(II)I"⟩
def dkwX0_asks_1 : List UInt8 := [16, 24, 182, 1, 136, 167, 0, 5, 16, 156, 172]
abbrev dktX0_asks_1 : List UInt8 := dkwX0_asks_1 ++ []
def dkwX0_asks_0 : List UInt8 := [42, 27, 182, 0, 79, 153, 0, 27, 28, 133, 10, 20, 0, 59, 184, 0, 14, 153, 0, 15, 42, 27, 28, 3]
abbrev dktX0_asks_0 : List UInt8 := dkwX0_asks_0 ++ dktX0_asks_1
theorem dksX0_asks_0 : cX0_asks.data.toList.drop 0 = dktX0_asks_0 := by decide +kernel
theorem dksX0_asks_1 : cX0_asks.data.toList.drop 24 = dktX0_asks_1 := dk_seg dksX0_asks_0 24 rfl rfl
theorem dX0_asks_0 : decode cX0_asks 0 = .ok (.aload_n 0, 1) := dk_42 (dk_at dksX0_asks_0 0 rfl rfl)
theorem dX0_asks_1 : decode cX0_asks 1 = .ok (.iload_n 1, 1) := dk_27 (dk_at dksX0_asks_0 1 rfl rfl)
theorem dX0_asks_2 : decode cX0_asks 2 = .ok (.invokevirtual 79, 3) := dk_182 0 79 (dk_at dksX0_asks_0 2 rfl rfl)
theorem dX0_asks_5 : decode cX0_asks 5 = .ok (.ifCond .eq 27, 3) := dk_153 0 27 (dk_at dksX0_asks_0 5 rfl rfl)
theorem dX0_asks_8 : decode cX0_asks 8 = .ok (.iload_n 2, 1) := dk_28 (dk_at dksX0_asks_0 8 rfl rfl)
theorem dX0_asks_9 : decode cX0_asks 9 = .ok (.i2l, 1) := dk_133 (dk_at dksX0_asks_0 9 rfl rfl)
theorem dX0_asks_10 : decode cX0_asks 10 = .ok (.lconst 1, 1) := dk_10 (dk_at dksX0_asks_0 10 rfl rfl)
theorem dX0_asks_11 : decode cX0_asks 11 = .ok (.ldc2_w 59, 3) := dk_20 0 59 (dk_at dksX0_asks_0 11 rfl rfl)
theorem dX0_asks_14 : decode cX0_asks 14 = .ok (.invokestatic 14, 3) := dk_184 0 14 (dk_at dksX0_asks_0 14 rfl rfl)
theorem dX0_asks_17 : decode cX0_asks 17 = .ok (.ifCond .eq 15, 3) := dk_153 0 15 (dk_at dksX0_asks_0 17 rfl rfl)
theorem dX0_asks_20 : decode cX0_asks 20 = .ok (.aload_n 0, 1) := dk_42 (dk_at dksX0_asks_0 20 rfl rfl)
theorem dX0_asks_21 : decode cX0_asks 21 = .ok (.iload_n 1, 1) := dk_27 (dk_at dksX0_asks_0 21 rfl rfl)
theorem dX0_asks_22 : decode cX0_asks 22 = .ok (.iload_n 2, 1) := dk_28 (dk_at dksX0_asks_0 22 rfl rfl)
theorem dX0_asks_23 : decode cX0_asks 23 = .ok (.iconst 0, 1) := dk_3 (dk_at dksX0_asks_0 23 rfl rfl)
theorem dX0_asks_24 : decode cX0_asks 24 = .ok (.bipush 24, 2) := dk_16 24 (dk_at dksX0_asks_1 0 rfl rfl)
theorem dX0_asks_26 : decode cX0_asks 26 = .ok (.invokevirtual 392, 3) := dk_182 1 136 (dk_at dksX0_asks_1 2 rfl rfl)
theorem dX0_asks_29 : decode cX0_asks 29 = .ok (.goto 5, 3) := dk_167 0 5 (dk_at dksX0_asks_1 5 rfl rfl)
theorem dX0_asks_32 : decode cX0_asks 32 = .ok (.bipush (-100), 2) := dk_16 156 (dk_at dksX0_asks_1 8 rfl rfl)
theorem dX0_asks_34 : decode cX0_asks 34 = .ok (.ireturn, 1) := dk_172 (dk_at dksX0_asks_1 10 rfl rfl)
abbrev cX0_takingOf : ByteArray := prog_1_method_46_code
def yX0_takingOf : MethodName := ⟨RX0, "takingOf", "(IIII)I"⟩
def dkwX0_takingOf_1 : List UInt8 := [184, 1, 127, 28, 182, 1, 131, 172]
abbrev dktX0_takingOf_1 : List UInt8 := dkwX0_takingOf_1 ++ []
def dkwX0_takingOf_0 : List UInt8 := [42, 27, 182, 1, 120, 42, 180, 0, 47, 27, 50, 42, 3, 28, 29, 21, 4, 182, 1, 123, 3, 16, 99]
abbrev dktX0_takingOf_0 : List UInt8 := dkwX0_takingOf_0 ++ dktX0_takingOf_1
theorem dksX0_takingOf_0 : cX0_takingOf.data.toList.drop 0 = dktX0_takingOf_0 := by decide +kernel
theorem dksX0_takingOf_1 : cX0_takingOf.data.toList.drop 23 = dktX0_takingOf_1 := dk_seg dksX0_takingOf_0 23 rfl rfl
theorem dX0_takingOf_0 : decode cX0_takingOf 0 = .ok (.aload_n 0, 1) := dk_42 (dk_at dksX0_takingOf_0 0 rfl rfl)
theorem dX0_takingOf_1 : decode cX0_takingOf 1 = .ok (.iload_n 1, 1) := dk_27 (dk_at dksX0_takingOf_0 1 rfl rfl)
theorem dX0_takingOf_2 : decode cX0_takingOf 2 = .ok (.invokevirtual 376, 3) := dk_182 1 120 (dk_at dksX0_takingOf_0 2 rfl rfl)
theorem dX0_takingOf_5 : decode cX0_takingOf 5 = .ok (.aload_n 0, 1) := dk_42 (dk_at dksX0_takingOf_0 5 rfl rfl)
theorem dX0_takingOf_6 : decode cX0_takingOf 6 = .ok (.getfield 47, 3) := dk_180 0 47 (dk_at dksX0_takingOf_0 6 rfl rfl)
theorem dX0_takingOf_9 : decode cX0_takingOf 9 = .ok (.iload_n 1, 1) := dk_27 (dk_at dksX0_takingOf_0 9 rfl rfl)
theorem dX0_takingOf_10 : decode cX0_takingOf 10 = .ok (.aaload, 1) := dk_50 (dk_at dksX0_takingOf_0 10 rfl rfl)
theorem dX0_takingOf_11 : decode cX0_takingOf 11 = .ok (.aload_n 0, 1) := dk_42 (dk_at dksX0_takingOf_0 11 rfl rfl)
theorem dX0_takingOf_12 : decode cX0_takingOf 12 = .ok (.iconst 0, 1) := dk_3 (dk_at dksX0_takingOf_0 12 rfl rfl)
theorem dX0_takingOf_13 : decode cX0_takingOf 13 = .ok (.iload_n 2, 1) := dk_28 (dk_at dksX0_takingOf_0 13 rfl rfl)
theorem dX0_takingOf_14 : decode cX0_takingOf 14 = .ok (.iload_n 3, 1) := dk_29 (dk_at dksX0_takingOf_0 14 rfl rfl)
theorem dX0_takingOf_15 : decode cX0_takingOf 15 = .ok (.iload 4, 2) := dk_21 4 (dk_at dksX0_takingOf_0 15 rfl rfl)
theorem dX0_takingOf_17 : decode cX0_takingOf 17 = .ok (.invokevirtual 379, 3) := dk_182 1 123 (dk_at dksX0_takingOf_0 17 rfl rfl)
theorem dX0_takingOf_20 : decode cX0_takingOf 20 = .ok (.iconst 0, 1) := dk_3 (dk_at dksX0_takingOf_0 20 rfl rfl)
theorem dX0_takingOf_21 : decode cX0_takingOf 21 = .ok (.bipush 99, 2) := dk_16 99 (dk_at dksX0_takingOf_0 21 rfl rfl)
theorem dX0_takingOf_23 : decode cX0_takingOf 23 = .ok (.invokestatic 383, 3) := dk_184 1 127 (dk_at dksX0_takingOf_1 0 rfl rfl)
theorem dX0_takingOf_26 : decode cX0_takingOf 26 = .ok (.iload_n 2, 1) := dk_28 (dk_at dksX0_takingOf_1 3 rfl rfl)
theorem dX0_takingOf_27 : decode cX0_takingOf 27 = .ok (.invokevirtual 387, 3) := dk_182 1 131 (dk_at dksX0_takingOf_1 4 rfl rfl)
theorem dX0_takingOf_30 : decode cX0_takingOf 30 = .ok (.ireturn, 1) := dk_172 (dk_at dksX0_takingOf_1 7 rfl rfl)
abbrev cX0_glean : ByteArray := prog_1_method_53_code
def yX0_glean : MethodName := ⟨RX0, "glean", "(II)I"⟩
def dkwX0_glean_1 : List UInt8 := [16, 156, 172]
abbrev dktX0_glean_1 : List UInt8 := dkwX0_glean_1 ++ []
def dkwX0_glean_0 : List UInt8 := [42, 27, 182, 0, 79, 153, 0, 19, 28, 184, 0, 55, 153, 0, 12, 42, 27, 28, 182, 1, 149, 167, 0, 5]
abbrev dktX0_glean_0 : List UInt8 := dkwX0_glean_0 ++ dktX0_glean_1
theorem dksX0_glean_0 : cX0_glean.data.toList.drop 0 = dktX0_glean_0 := by decide +kernel
theorem dksX0_glean_1 : cX0_glean.data.toList.drop 24 = dktX0_glean_1 := dk_seg dksX0_glean_0 24 rfl rfl
theorem dX0_glean_0 : decode cX0_glean 0 = .ok (.aload_n 0, 1) := dk_42 (dk_at dksX0_glean_0 0 rfl rfl)
theorem dX0_glean_1 : decode cX0_glean 1 = .ok (.iload_n 1, 1) := dk_27 (dk_at dksX0_glean_0 1 rfl rfl)
theorem dX0_glean_2 : decode cX0_glean 2 = .ok (.invokevirtual 79, 3) := dk_182 0 79 (dk_at dksX0_glean_0 2 rfl rfl)
theorem dX0_glean_5 : decode cX0_glean 5 = .ok (.ifCond .eq 19, 3) := dk_153 0 19 (dk_at dksX0_glean_0 5 rfl rfl)
theorem dX0_glean_8 : decode cX0_glean 8 = .ok (.iload_n 2, 1) := dk_28 (dk_at dksX0_glean_0 8 rfl rfl)
theorem dX0_glean_9 : decode cX0_glean 9 = .ok (.invokestatic 55, 3) := dk_184 0 55 (dk_at dksX0_glean_0 9 rfl rfl)
theorem dX0_glean_12 : decode cX0_glean 12 = .ok (.ifCond .eq 12, 3) := dk_153 0 12 (dk_at dksX0_glean_0 12 rfl rfl)
theorem dX0_glean_15 : decode cX0_glean 15 = .ok (.aload_n 0, 1) := dk_42 (dk_at dksX0_glean_0 15 rfl rfl)
theorem dX0_glean_16 : decode cX0_glean 16 = .ok (.iload_n 1, 1) := dk_27 (dk_at dksX0_glean_0 16 rfl rfl)
theorem dX0_glean_17 : decode cX0_glean 17 = .ok (.iload_n 2, 1) := dk_28 (dk_at dksX0_glean_0 17 rfl rfl)
theorem dX0_glean_18 : decode cX0_glean 18 = .ok (.invokevirtual 405, 3) := dk_182 1 149 (dk_at dksX0_glean_0 18 rfl rfl)
theorem dX0_glean_21 : decode cX0_glean 21 = .ok (.goto 5, 3) := dk_167 0 5 (dk_at dksX0_glean_0 21 rfl rfl)
theorem dX0_glean_24 : decode cX0_glean 24 = .ok (.bipush (-100), 2) := dk_16 156 (dk_at dksX0_glean_1 0 rfl rfl)
theorem dX0_glean_26 : decode cX0_glean 26 = .ok (.ireturn, 1) := dk_172 (dk_at dksX0_glean_1 2 rfl rfl)
abbrev cX0_gleans : ByteArray := prog_1_method_52_code
def yX0_gleans : MethodName := ⟨RX0, "gleans", "(II)I"⟩
def dkwX0_gleans_4 : List UInt8 := [21, 4, 21, 6, 21, 7, 100, 96, 54, 4, 132, 4, 1, 167, 255, 156, 42, 21, 5, 181, 1, 146, 29, 172]
abbrev dktX0_gleans_4 : List UInt8 := dkwX0_gleans_4 ++ []
def dkwX0_gleans_3 : List UInt8 := [21, 5, 182, 1, 142, 54, 7, 42, 180, 1, 55, 21, 5, 21, 7, 79, 29, 21, 7, 96, 62, 132, 5, 1]
abbrev dktX0_gleans_3 : List UInt8 := dkwX0_gleans_3 ++ dktX0_gleans_4
def dkwX0_gleans_2 : List UInt8 := [184, 0, 128, 154, 0, 9, 132, 6, 1, 167, 255, 222, 21, 6, 158, 0, 44, 42, 27, 28, 21, 4, 21, 6]
abbrev dktX0_gleans_2 : List UInt8 := dkwX0_gleans_2 ++ dktX0_gleans_3
def dkwX0_gleans_1 : List UInt8 := [21, 6, 96, 42, 180, 0, 61, 28, 46, 162, 0, 26, 42, 180, 0, 65, 28, 46, 21, 4, 21, 6, 96]
abbrev dktX0_gleans_1 : List UInt8 := dkwX0_gleans_1 ++ dktX0_gleans_2
def dkwX0_gleans_0 : List UInt8 := [3, 62, 3, 54, 4, 3, 54, 5, 21, 4, 42, 180, 0, 61, 28, 46, 162, 0, 95, 3, 54, 6, 21, 4]
abbrev dktX0_gleans_0 : List UInt8 := dkwX0_gleans_0 ++ dktX0_gleans_1
theorem dksX0_gleans_0 : cX0_gleans.data.toList.drop 0 = dktX0_gleans_0 := by decide +kernel
theorem dksX0_gleans_1 : cX0_gleans.data.toList.drop 24 = dktX0_gleans_1 := dk_seg dksX0_gleans_0 24 rfl rfl
theorem dksX0_gleans_2 : cX0_gleans.data.toList.drop 47 = dktX0_gleans_2 := dk_seg dksX0_gleans_1 23 rfl rfl
theorem dksX0_gleans_3 : cX0_gleans.data.toList.drop 71 = dktX0_gleans_3 := dk_seg dksX0_gleans_2 24 rfl rfl
theorem dksX0_gleans_4 : cX0_gleans.data.toList.drop 95 = dktX0_gleans_4 := dk_seg dksX0_gleans_3 24 rfl rfl
theorem dX0_gleans_0 : decode cX0_gleans 0 = .ok (.iconst 0, 1) := dk_3 (dk_at dksX0_gleans_0 0 rfl rfl)
theorem dX0_gleans_1 : decode cX0_gleans 1 = .ok (.istore_n 3, 1) := dk_62 (dk_at dksX0_gleans_0 1 rfl rfl)
theorem dX0_gleans_2 : decode cX0_gleans 2 = .ok (.iconst 0, 1) := dk_3 (dk_at dksX0_gleans_0 2 rfl rfl)
theorem dX0_gleans_3 : decode cX0_gleans 3 = .ok (.istore 4, 2) := dk_54 4 (dk_at dksX0_gleans_0 3 rfl rfl)
theorem dX0_gleans_5 : decode cX0_gleans 5 = .ok (.iconst 0, 1) := dk_3 (dk_at dksX0_gleans_0 5 rfl rfl)
theorem dX0_gleans_6 : decode cX0_gleans 6 = .ok (.istore 5, 2) := dk_54 5 (dk_at dksX0_gleans_0 6 rfl rfl)
theorem dX0_gleans_8 : decode cX0_gleans 8 = .ok (.iload 4, 2) := dk_21 4 (dk_at dksX0_gleans_0 8 rfl rfl)
theorem dX0_gleans_10 : decode cX0_gleans 10 = .ok (.aload_n 0, 1) := dk_42 (dk_at dksX0_gleans_0 10 rfl rfl)
theorem dX0_gleans_11 : decode cX0_gleans 11 = .ok (.getfield 61, 3) := dk_180 0 61 (dk_at dksX0_gleans_0 11 rfl rfl)
theorem dX0_gleans_14 : decode cX0_gleans 14 = .ok (.iload_n 2, 1) := dk_28 (dk_at dksX0_gleans_0 14 rfl rfl)
theorem dX0_gleans_15 : decode cX0_gleans 15 = .ok (.iaload, 1) := dk_46 (dk_at dksX0_gleans_0 15 rfl rfl)
theorem dX0_gleans_16 : decode cX0_gleans 16 = .ok (.if_icmp .ge 95, 3) := dk_162 0 95 (dk_at dksX0_gleans_0 16 rfl rfl)
theorem dX0_gleans_19 : decode cX0_gleans 19 = .ok (.iconst 0, 1) := dk_3 (dk_at dksX0_gleans_0 19 rfl rfl)
theorem dX0_gleans_20 : decode cX0_gleans 20 = .ok (.istore 6, 2) := dk_54 6 (dk_at dksX0_gleans_0 20 rfl rfl)
theorem dX0_gleans_22 : decode cX0_gleans 22 = .ok (.iload 4, 2) := dk_21 4 (dk_at dksX0_gleans_0 22 rfl rfl)
theorem dX0_gleans_24 : decode cX0_gleans 24 = .ok (.iload 6, 2) := dk_21 6 (dk_at dksX0_gleans_1 0 rfl rfl)
theorem dX0_gleans_26 : decode cX0_gleans 26 = .ok (.iadd, 1) := dk_96 (dk_at dksX0_gleans_1 2 rfl rfl)
theorem dX0_gleans_27 : decode cX0_gleans 27 = .ok (.aload_n 0, 1) := dk_42 (dk_at dksX0_gleans_1 3 rfl rfl)
theorem dX0_gleans_28 : decode cX0_gleans 28 = .ok (.getfield 61, 3) := dk_180 0 61 (dk_at dksX0_gleans_1 4 rfl rfl)
theorem dX0_gleans_31 : decode cX0_gleans 31 = .ok (.iload_n 2, 1) := dk_28 (dk_at dksX0_gleans_1 7 rfl rfl)
theorem dX0_gleans_32 : decode cX0_gleans 32 = .ok (.iaload, 1) := dk_46 (dk_at dksX0_gleans_1 8 rfl rfl)
theorem dX0_gleans_33 : decode cX0_gleans 33 = .ok (.if_icmp .ge 26, 3) := dk_162 0 26 (dk_at dksX0_gleans_1 9 rfl rfl)
theorem dX0_gleans_36 : decode cX0_gleans 36 = .ok (.aload_n 0, 1) := dk_42 (dk_at dksX0_gleans_1 12 rfl rfl)
theorem dX0_gleans_37 : decode cX0_gleans 37 = .ok (.getfield 65, 3) := dk_180 0 65 (dk_at dksX0_gleans_1 13 rfl rfl)
theorem dX0_gleans_40 : decode cX0_gleans 40 = .ok (.iload_n 2, 1) := dk_28 (dk_at dksX0_gleans_1 16 rfl rfl)
theorem dX0_gleans_41 : decode cX0_gleans 41 = .ok (.iaload, 1) := dk_46 (dk_at dksX0_gleans_1 17 rfl rfl)
theorem dX0_gleans_42 : decode cX0_gleans 42 = .ok (.iload 4, 2) := dk_21 4 (dk_at dksX0_gleans_1 18 rfl rfl)
theorem dX0_gleans_44 : decode cX0_gleans 44 = .ok (.iload 6, 2) := dk_21 6 (dk_at dksX0_gleans_1 20 rfl rfl)
theorem dX0_gleans_46 : decode cX0_gleans 46 = .ok (.iadd, 1) := dk_96 (dk_at dksX0_gleans_1 22 rfl rfl)
theorem dX0_gleans_47 : decode cX0_gleans 47 = .ok (.invokestatic 128, 3) := dk_184 0 128 (dk_at dksX0_gleans_2 0 rfl rfl)
theorem dX0_gleans_50 : decode cX0_gleans 50 = .ok (.ifCond .ne 9, 3) := dk_154 0 9 (dk_at dksX0_gleans_2 3 rfl rfl)
theorem dX0_gleans_53 : decode cX0_gleans 53 = .ok (.iinc 6 1, 3) := dk_132 6 1 (dk_at dksX0_gleans_2 6 rfl rfl)
theorem dX0_gleans_56 : decode cX0_gleans 56 = .ok (.goto (-34), 3) := dk_167 255 222 (dk_at dksX0_gleans_2 9 rfl rfl)
theorem dX0_gleans_59 : decode cX0_gleans 59 = .ok (.iload 6, 2) := dk_21 6 (dk_at dksX0_gleans_2 12 rfl rfl)
theorem dX0_gleans_61 : decode cX0_gleans 61 = .ok (.ifCond .le 44, 3) := dk_158 0 44 (dk_at dksX0_gleans_2 14 rfl rfl)
theorem dX0_gleans_64 : decode cX0_gleans 64 = .ok (.aload_n 0, 1) := dk_42 (dk_at dksX0_gleans_2 17 rfl rfl)
theorem dX0_gleans_65 : decode cX0_gleans 65 = .ok (.iload_n 1, 1) := dk_27 (dk_at dksX0_gleans_2 18 rfl rfl)
theorem dX0_gleans_66 : decode cX0_gleans 66 = .ok (.iload_n 2, 1) := dk_28 (dk_at dksX0_gleans_2 19 rfl rfl)
theorem dX0_gleans_67 : decode cX0_gleans 67 = .ok (.iload 4, 2) := dk_21 4 (dk_at dksX0_gleans_2 20 rfl rfl)
theorem dX0_gleans_69 : decode cX0_gleans 69 = .ok (.iload 6, 2) := dk_21 6 (dk_at dksX0_gleans_2 22 rfl rfl)
theorem dX0_gleans_71 : decode cX0_gleans 71 = .ok (.iload 5, 2) := dk_21 5 (dk_at dksX0_gleans_3 0 rfl rfl)
theorem dX0_gleans_73 : decode cX0_gleans 73 = .ok (.invokevirtual 398, 3) := dk_182 1 142 (dk_at dksX0_gleans_3 2 rfl rfl)
theorem dX0_gleans_76 : decode cX0_gleans 76 = .ok (.istore 7, 2) := dk_54 7 (dk_at dksX0_gleans_3 5 rfl rfl)
theorem dX0_gleans_78 : decode cX0_gleans 78 = .ok (.aload_n 0, 1) := dk_42 (dk_at dksX0_gleans_3 7 rfl rfl)
theorem dX0_gleans_79 : decode cX0_gleans 79 = .ok (.getfield 311, 3) := dk_180 1 55 (dk_at dksX0_gleans_3 8 rfl rfl)
theorem dX0_gleans_82 : decode cX0_gleans 82 = .ok (.iload 5, 2) := dk_21 5 (dk_at dksX0_gleans_3 11 rfl rfl)
theorem dX0_gleans_84 : decode cX0_gleans 84 = .ok (.iload 7, 2) := dk_21 7 (dk_at dksX0_gleans_3 13 rfl rfl)
theorem dX0_gleans_86 : decode cX0_gleans 86 = .ok (.iastore, 1) := dk_79 (dk_at dksX0_gleans_3 15 rfl rfl)
theorem dX0_gleans_87 : decode cX0_gleans 87 = .ok (.iload_n 3, 1) := dk_29 (dk_at dksX0_gleans_3 16 rfl rfl)
theorem dX0_gleans_88 : decode cX0_gleans 88 = .ok (.iload 7, 2) := dk_21 7 (dk_at dksX0_gleans_3 17 rfl rfl)
theorem dX0_gleans_90 : decode cX0_gleans 90 = .ok (.iadd, 1) := dk_96 (dk_at dksX0_gleans_3 19 rfl rfl)
theorem dX0_gleans_91 : decode cX0_gleans 91 = .ok (.istore_n 3, 1) := dk_62 (dk_at dksX0_gleans_3 20 rfl rfl)
theorem dX0_gleans_92 : decode cX0_gleans 92 = .ok (.iinc 5 1, 3) := dk_132 5 1 (dk_at dksX0_gleans_3 21 rfl rfl)
theorem dX0_gleans_95 : decode cX0_gleans 95 = .ok (.iload 4, 2) := dk_21 4 (dk_at dksX0_gleans_4 0 rfl rfl)
theorem dX0_gleans_97 : decode cX0_gleans 97 = .ok (.iload 6, 2) := dk_21 6 (dk_at dksX0_gleans_4 2 rfl rfl)
theorem dX0_gleans_99 : decode cX0_gleans 99 = .ok (.iload 7, 2) := dk_21 7 (dk_at dksX0_gleans_4 4 rfl rfl)
theorem dX0_gleans_101 : decode cX0_gleans 101 = .ok (.isub, 1) := dk_100 (dk_at dksX0_gleans_4 6 rfl rfl)
theorem dX0_gleans_102 : decode cX0_gleans 102 = .ok (.iadd, 1) := dk_96 (dk_at dksX0_gleans_4 7 rfl rfl)
theorem dX0_gleans_103 : decode cX0_gleans 103 = .ok (.istore 4, 2) := dk_54 4 (dk_at dksX0_gleans_4 8 rfl rfl)
theorem dX0_gleans_105 : decode cX0_gleans 105 = .ok (.iinc 4 1, 3) := dk_132 4 1 (dk_at dksX0_gleans_4 10 rfl rfl)
theorem dX0_gleans_108 : decode cX0_gleans 108 = .ok (.goto (-100), 3) := dk_167 255 156 (dk_at dksX0_gleans_4 13 rfl rfl)
theorem dX0_gleans_111 : decode cX0_gleans 111 = .ok (.aload_n 0, 1) := dk_42 (dk_at dksX0_gleans_4 16 rfl rfl)
theorem dX0_gleans_112 : decode cX0_gleans 112 = .ok (.iload 5, 2) := dk_21 5 (dk_at dksX0_gleans_4 17 rfl rfl)
theorem dX0_gleans_114 : decode cX0_gleans 114 = .ok (.putfield 402, 3) := dk_181 1 146 (dk_at dksX0_gleans_4 19 rfl rfl)
theorem dX0_gleans_117 : decode cX0_gleans 117 = .ok (.iload_n 3, 1) := dk_29 (dk_at dksX0_gleans_4 22 rfl rfl)
theorem dX0_gleans_118 : decode cX0_gleans 118 = .ok (.ireturn, 1) := dk_172 (dk_at dksX0_gleans_4 23 rfl rfl)
abbrev cX0_takesRun : ByteArray := prog_1_method_51_code
def yX0_takesRun : MethodName := ⟨RX0, "takesRun", "(IIIII)I"⟩
def dkwX0_takesRun_3 : List UInt8 := [17, 3, 231, 184, 1, 127, 181, 0, 88, 21, 7, 172]
abbrev dktX0_takesRun_3 : List UInt8 := dkwX0_takesRun_3 ++ []
def dkwX0_takesRun_2 : List UInt8 := [21, 7, 182, 1, 139, 42, 180, 0, 47, 27, 50, 42, 180, 0, 47, 27, 50, 180, 0, 88, 21, 7, 96, 3]
abbrev dktX0_takesRun_2 : List UInt8 := dkwX0_takesRun_2 ++ dktX0_takesRun_3
def dkwX0_takesRun_1 : List UInt8 := [116, 16, 24, 42, 180, 0, 61, 28, 46, 100, 184, 0, 1, 116, 167, 0, 5, 21, 6, 54, 7, 42, 28, 29]
abbrev dktX0_takesRun_1 : List UInt8 := dkwX0_takesRun_1 ++ dktX0_takesRun_2
def dkwX0_takesRun_0 : List UInt8 := [42, 27, 21, 4, 21, 5, 42, 180, 0, 61, 28, 46, 182, 1, 136, 54, 6, 21, 6, 156, 0, 22, 21, 6]
abbrev dktX0_takesRun_0 : List UInt8 := dkwX0_takesRun_0 ++ dktX0_takesRun_1
theorem dksX0_takesRun_0 : cX0_takesRun.data.toList.drop 0 = dktX0_takesRun_0 := by decide +kernel
theorem dksX0_takesRun_1 : cX0_takesRun.data.toList.drop 24 = dktX0_takesRun_1 := dk_seg dksX0_takesRun_0 24 rfl rfl
theorem dksX0_takesRun_2 : cX0_takesRun.data.toList.drop 48 = dktX0_takesRun_2 := dk_seg dksX0_takesRun_1 24 rfl rfl
theorem dksX0_takesRun_3 : cX0_takesRun.data.toList.drop 72 = dktX0_takesRun_3 := dk_seg dksX0_takesRun_2 24 rfl rfl
theorem dX0_takesRun_0 : decode cX0_takesRun 0 = .ok (.aload_n 0, 1) := dk_42 (dk_at dksX0_takesRun_0 0 rfl rfl)
theorem dX0_takesRun_1 : decode cX0_takesRun 1 = .ok (.iload_n 1, 1) := dk_27 (dk_at dksX0_takesRun_0 1 rfl rfl)
theorem dX0_takesRun_2 : decode cX0_takesRun 2 = .ok (.iload 4, 2) := dk_21 4 (dk_at dksX0_takesRun_0 2 rfl rfl)
theorem dX0_takesRun_4 : decode cX0_takesRun 4 = .ok (.iload 5, 2) := dk_21 5 (dk_at dksX0_takesRun_0 4 rfl rfl)
theorem dX0_takesRun_6 : decode cX0_takesRun 6 = .ok (.aload_n 0, 1) := dk_42 (dk_at dksX0_takesRun_0 6 rfl rfl)
theorem dX0_takesRun_7 : decode cX0_takesRun 7 = .ok (.getfield 61, 3) := dk_180 0 61 (dk_at dksX0_takesRun_0 7 rfl rfl)
theorem dX0_takesRun_10 : decode cX0_takesRun 10 = .ok (.iload_n 2, 1) := dk_28 (dk_at dksX0_takesRun_0 10 rfl rfl)
theorem dX0_takesRun_11 : decode cX0_takesRun 11 = .ok (.iaload, 1) := dk_46 (dk_at dksX0_takesRun_0 11 rfl rfl)
theorem dX0_takesRun_12 : decode cX0_takesRun 12 = .ok (.invokevirtual 392, 3) := dk_182 1 136 (dk_at dksX0_takesRun_0 12 rfl rfl)
theorem dX0_takesRun_15 : decode cX0_takesRun 15 = .ok (.istore 6, 2) := dk_54 6 (dk_at dksX0_takesRun_0 15 rfl rfl)
theorem dX0_takesRun_17 : decode cX0_takesRun 17 = .ok (.iload 6, 2) := dk_21 6 (dk_at dksX0_takesRun_0 17 rfl rfl)
theorem dX0_takesRun_19 : decode cX0_takesRun 19 = .ok (.ifCond .ge 22, 3) := dk_156 0 22 (dk_at dksX0_takesRun_0 19 rfl rfl)
theorem dX0_takesRun_22 : decode cX0_takesRun 22 = .ok (.iload 6, 2) := dk_21 6 (dk_at dksX0_takesRun_0 22 rfl rfl)
theorem dX0_takesRun_24 : decode cX0_takesRun 24 = .ok (.ineg, 1) := dk_116 (dk_at dksX0_takesRun_1 0 rfl rfl)
theorem dX0_takesRun_25 : decode cX0_takesRun 25 = .ok (.bipush 24, 2) := dk_16 24 (dk_at dksX0_takesRun_1 1 rfl rfl)
theorem dX0_takesRun_27 : decode cX0_takesRun 27 = .ok (.aload_n 0, 1) := dk_42 (dk_at dksX0_takesRun_1 3 rfl rfl)
theorem dX0_takesRun_28 : decode cX0_takesRun 28 = .ok (.getfield 61, 3) := dk_180 0 61 (dk_at dksX0_takesRun_1 4 rfl rfl)
theorem dX0_takesRun_31 : decode cX0_takesRun 31 = .ok (.iload_n 2, 1) := dk_28 (dk_at dksX0_takesRun_1 7 rfl rfl)
theorem dX0_takesRun_32 : decode cX0_takesRun 32 = .ok (.iaload, 1) := dk_46 (dk_at dksX0_takesRun_1 8 rfl rfl)
theorem dX0_takesRun_33 : decode cX0_takesRun 33 = .ok (.isub, 1) := dk_100 (dk_at dksX0_takesRun_1 9 rfl rfl)
theorem dX0_takesRun_34 : decode cX0_takesRun 34 = .ok (.invokestatic 1, 3) := dk_184 0 1 (dk_at dksX0_takesRun_1 10 rfl rfl)
theorem dX0_takesRun_37 : decode cX0_takesRun 37 = .ok (.ineg, 1) := dk_116 (dk_at dksX0_takesRun_1 13 rfl rfl)
theorem dX0_takesRun_38 : decode cX0_takesRun 38 = .ok (.goto 5, 3) := dk_167 0 5 (dk_at dksX0_takesRun_1 14 rfl rfl)
theorem dX0_takesRun_41 : decode cX0_takesRun 41 = .ok (.iload 6, 2) := dk_21 6 (dk_at dksX0_takesRun_1 17 rfl rfl)
theorem dX0_takesRun_43 : decode cX0_takesRun 43 = .ok (.istore 7, 2) := dk_54 7 (dk_at dksX0_takesRun_1 19 rfl rfl)
theorem dX0_takesRun_45 : decode cX0_takesRun 45 = .ok (.aload_n 0, 1) := dk_42 (dk_at dksX0_takesRun_1 21 rfl rfl)
theorem dX0_takesRun_46 : decode cX0_takesRun 46 = .ok (.iload_n 2, 1) := dk_28 (dk_at dksX0_takesRun_1 22 rfl rfl)
theorem dX0_takesRun_47 : decode cX0_takesRun 47 = .ok (.iload_n 3, 1) := dk_29 (dk_at dksX0_takesRun_1 23 rfl rfl)
theorem dX0_takesRun_48 : decode cX0_takesRun 48 = .ok (.iload 7, 2) := dk_21 7 (dk_at dksX0_takesRun_2 0 rfl rfl)
theorem dX0_takesRun_50 : decode cX0_takesRun 50 = .ok (.invokevirtual 395, 3) := dk_182 1 139 (dk_at dksX0_takesRun_2 2 rfl rfl)
theorem dX0_takesRun_53 : decode cX0_takesRun 53 = .ok (.aload_n 0, 1) := dk_42 (dk_at dksX0_takesRun_2 5 rfl rfl)
theorem dX0_takesRun_54 : decode cX0_takesRun 54 = .ok (.getfield 47, 3) := dk_180 0 47 (dk_at dksX0_takesRun_2 6 rfl rfl)
theorem dX0_takesRun_57 : decode cX0_takesRun 57 = .ok (.iload_n 1, 1) := dk_27 (dk_at dksX0_takesRun_2 9 rfl rfl)
theorem dX0_takesRun_58 : decode cX0_takesRun 58 = .ok (.aaload, 1) := dk_50 (dk_at dksX0_takesRun_2 10 rfl rfl)
theorem dX0_takesRun_59 : decode cX0_takesRun 59 = .ok (.aload_n 0, 1) := dk_42 (dk_at dksX0_takesRun_2 11 rfl rfl)
theorem dX0_takesRun_60 : decode cX0_takesRun 60 = .ok (.getfield 47, 3) := dk_180 0 47 (dk_at dksX0_takesRun_2 12 rfl rfl)
theorem dX0_takesRun_63 : decode cX0_takesRun 63 = .ok (.iload_n 1, 1) := dk_27 (dk_at dksX0_takesRun_2 15 rfl rfl)
theorem dX0_takesRun_64 : decode cX0_takesRun 64 = .ok (.aaload, 1) := dk_50 (dk_at dksX0_takesRun_2 16 rfl rfl)
theorem dX0_takesRun_65 : decode cX0_takesRun 65 = .ok (.getfield 88, 3) := dk_180 0 88 (dk_at dksX0_takesRun_2 17 rfl rfl)
theorem dX0_takesRun_68 : decode cX0_takesRun 68 = .ok (.iload 7, 2) := dk_21 7 (dk_at dksX0_takesRun_2 20 rfl rfl)
theorem dX0_takesRun_70 : decode cX0_takesRun 70 = .ok (.iadd, 1) := dk_96 (dk_at dksX0_takesRun_2 22 rfl rfl)
theorem dX0_takesRun_71 : decode cX0_takesRun 71 = .ok (.iconst 0, 1) := dk_3 (dk_at dksX0_takesRun_2 23 rfl rfl)
theorem dX0_takesRun_72 : decode cX0_takesRun 72 = .ok (.sipush 999, 3) := dk_17 3 231 (dk_at dksX0_takesRun_3 0 rfl rfl)
theorem dX0_takesRun_75 : decode cX0_takesRun 75 = .ok (.invokestatic 383, 3) := dk_184 1 127 (dk_at dksX0_takesRun_3 3 rfl rfl)
theorem dX0_takesRun_78 : decode cX0_takesRun 78 = .ok (.putfield 88, 3) := dk_181 0 88 (dk_at dksX0_takesRun_3 6 rfl rfl)
theorem dX0_takesRun_81 : decode cX0_takesRun 81 = .ok (.iload 7, 2) := dk_21 7 (dk_at dksX0_takesRun_3 9 rfl rfl)
theorem dX0_takesRun_83 : decode cX0_takesRun 83 = .ok (.ireturn, 1) := dk_172 (dk_at dksX0_takesRun_3 11 rfl rfl)
abbrev cX0_closes : ByteArray := prog_1_method_50_code
def yX0_closes : MethodName := ⟨RX0, "closes", "(III)V"⟩
def dkwX0_closes_3 : List UInt8 := [180, 0, 61, 27, 92, 46, 29, 100, 79, 177]
abbrev dktX0_closes_3 : List UInt8 := dkwX0_closes_3 ++ []
def dkwX0_closes_2 : List UInt8 := [158, 0, 13, 21, 4, 21, 5, 28, 120, 128, 167, 0, 12, 21, 4, 21, 5, 28, 29, 100, 120, 128, 79, 42]
abbrev dktX0_closes_2 : List UInt8 := dkwX0_closes_2 ++ dktX0_closes_3
def dkwX0_closes_1 : List UInt8 := [28, 29, 96, 122, 167, 0, 11, 42, 180, 0, 65, 27, 46, 28, 122, 54, 5, 42, 180, 0, 65, 27, 29]
abbrev dktX0_closes_1 : List UInt8 := dkwX0_closes_1 ++ dktX0_closes_2
def dkwX0_closes_0 : List UInt8 := [42, 180, 0, 65, 27, 46, 4, 28, 120, 4, 100, 126, 54, 4, 29, 158, 0, 16, 42, 180, 0, 65, 27, 46]
abbrev dktX0_closes_0 : List UInt8 := dkwX0_closes_0 ++ dktX0_closes_1
theorem dksX0_closes_0 : cX0_closes.data.toList.drop 0 = dktX0_closes_0 := by decide +kernel
theorem dksX0_closes_1 : cX0_closes.data.toList.drop 24 = dktX0_closes_1 := dk_seg dksX0_closes_0 24 rfl rfl
theorem dksX0_closes_2 : cX0_closes.data.toList.drop 47 = dktX0_closes_2 := dk_seg dksX0_closes_1 23 rfl rfl
theorem dksX0_closes_3 : cX0_closes.data.toList.drop 71 = dktX0_closes_3 := dk_seg dksX0_closes_2 24 rfl rfl
theorem dX0_closes_0 : decode cX0_closes 0 = .ok (.aload_n 0, 1) := dk_42 (dk_at dksX0_closes_0 0 rfl rfl)
theorem dX0_closes_1 : decode cX0_closes 1 = .ok (.getfield 65, 3) := dk_180 0 65 (dk_at dksX0_closes_0 1 rfl rfl)
theorem dX0_closes_4 : decode cX0_closes 4 = .ok (.iload_n 1, 1) := dk_27 (dk_at dksX0_closes_0 4 rfl rfl)
theorem dX0_closes_5 : decode cX0_closes 5 = .ok (.iaload, 1) := dk_46 (dk_at dksX0_closes_0 5 rfl rfl)
theorem dX0_closes_6 : decode cX0_closes 6 = .ok (.iconst 1, 1) := dk_4 (dk_at dksX0_closes_0 6 rfl rfl)
theorem dX0_closes_7 : decode cX0_closes 7 = .ok (.iload_n 2, 1) := dk_28 (dk_at dksX0_closes_0 7 rfl rfl)
theorem dX0_closes_8 : decode cX0_closes 8 = .ok (.ishl, 1) := dk_120 (dk_at dksX0_closes_0 8 rfl rfl)
theorem dX0_closes_9 : decode cX0_closes 9 = .ok (.iconst 1, 1) := dk_4 (dk_at dksX0_closes_0 9 rfl rfl)
theorem dX0_closes_10 : decode cX0_closes 10 = .ok (.isub, 1) := dk_100 (dk_at dksX0_closes_0 10 rfl rfl)
theorem dX0_closes_11 : decode cX0_closes 11 = .ok (.iand, 1) := dk_126 (dk_at dksX0_closes_0 11 rfl rfl)
theorem dX0_closes_12 : decode cX0_closes 12 = .ok (.istore 4, 2) := dk_54 4 (dk_at dksX0_closes_0 12 rfl rfl)
theorem dX0_closes_14 : decode cX0_closes 14 = .ok (.iload_n 3, 1) := dk_29 (dk_at dksX0_closes_0 14 rfl rfl)
theorem dX0_closes_15 : decode cX0_closes 15 = .ok (.ifCond .le 16, 3) := dk_158 0 16 (dk_at dksX0_closes_0 15 rfl rfl)
theorem dX0_closes_18 : decode cX0_closes 18 = .ok (.aload_n 0, 1) := dk_42 (dk_at dksX0_closes_0 18 rfl rfl)
theorem dX0_closes_19 : decode cX0_closes 19 = .ok (.getfield 65, 3) := dk_180 0 65 (dk_at dksX0_closes_0 19 rfl rfl)
theorem dX0_closes_22 : decode cX0_closes 22 = .ok (.iload_n 1, 1) := dk_27 (dk_at dksX0_closes_0 22 rfl rfl)
theorem dX0_closes_23 : decode cX0_closes 23 = .ok (.iaload, 1) := dk_46 (dk_at dksX0_closes_0 23 rfl rfl)
theorem dX0_closes_24 : decode cX0_closes 24 = .ok (.iload_n 2, 1) := dk_28 (dk_at dksX0_closes_1 0 rfl rfl)
theorem dX0_closes_25 : decode cX0_closes 25 = .ok (.iload_n 3, 1) := dk_29 (dk_at dksX0_closes_1 1 rfl rfl)
theorem dX0_closes_26 : decode cX0_closes 26 = .ok (.iadd, 1) := dk_96 (dk_at dksX0_closes_1 2 rfl rfl)
theorem dX0_closes_27 : decode cX0_closes 27 = .ok (.ishr, 1) := dk_122 (dk_at dksX0_closes_1 3 rfl rfl)
theorem dX0_closes_28 : decode cX0_closes 28 = .ok (.goto 11, 3) := dk_167 0 11 (dk_at dksX0_closes_1 4 rfl rfl)
theorem dX0_closes_31 : decode cX0_closes 31 = .ok (.aload_n 0, 1) := dk_42 (dk_at dksX0_closes_1 7 rfl rfl)
theorem dX0_closes_32 : decode cX0_closes 32 = .ok (.getfield 65, 3) := dk_180 0 65 (dk_at dksX0_closes_1 8 rfl rfl)
theorem dX0_closes_35 : decode cX0_closes 35 = .ok (.iload_n 1, 1) := dk_27 (dk_at dksX0_closes_1 11 rfl rfl)
theorem dX0_closes_36 : decode cX0_closes 36 = .ok (.iaload, 1) := dk_46 (dk_at dksX0_closes_1 12 rfl rfl)
theorem dX0_closes_37 : decode cX0_closes 37 = .ok (.iload_n 2, 1) := dk_28 (dk_at dksX0_closes_1 13 rfl rfl)
theorem dX0_closes_38 : decode cX0_closes 38 = .ok (.ishr, 1) := dk_122 (dk_at dksX0_closes_1 14 rfl rfl)
theorem dX0_closes_39 : decode cX0_closes 39 = .ok (.istore 5, 2) := dk_54 5 (dk_at dksX0_closes_1 15 rfl rfl)
theorem dX0_closes_41 : decode cX0_closes 41 = .ok (.aload_n 0, 1) := dk_42 (dk_at dksX0_closes_1 17 rfl rfl)
theorem dX0_closes_42 : decode cX0_closes 42 = .ok (.getfield 65, 3) := dk_180 0 65 (dk_at dksX0_closes_1 18 rfl rfl)
theorem dX0_closes_45 : decode cX0_closes 45 = .ok (.iload_n 1, 1) := dk_27 (dk_at dksX0_closes_1 21 rfl rfl)
theorem dX0_closes_46 : decode cX0_closes 46 = .ok (.iload_n 3, 1) := dk_29 (dk_at dksX0_closes_1 22 rfl rfl)
theorem dX0_closes_47 : decode cX0_closes 47 = .ok (.ifCond .le 13, 3) := dk_158 0 13 (dk_at dksX0_closes_2 0 rfl rfl)
theorem dX0_closes_50 : decode cX0_closes 50 = .ok (.iload 4, 2) := dk_21 4 (dk_at dksX0_closes_2 3 rfl rfl)
theorem dX0_closes_52 : decode cX0_closes 52 = .ok (.iload 5, 2) := dk_21 5 (dk_at dksX0_closes_2 5 rfl rfl)
theorem dX0_closes_54 : decode cX0_closes 54 = .ok (.iload_n 2, 1) := dk_28 (dk_at dksX0_closes_2 7 rfl rfl)
theorem dX0_closes_55 : decode cX0_closes 55 = .ok (.ishl, 1) := dk_120 (dk_at dksX0_closes_2 8 rfl rfl)
theorem dX0_closes_56 : decode cX0_closes 56 = .ok (.ior, 1) := dk_128 (dk_at dksX0_closes_2 9 rfl rfl)
theorem dX0_closes_57 : decode cX0_closes 57 = .ok (.goto 12, 3) := dk_167 0 12 (dk_at dksX0_closes_2 10 rfl rfl)
theorem dX0_closes_60 : decode cX0_closes 60 = .ok (.iload 4, 2) := dk_21 4 (dk_at dksX0_closes_2 13 rfl rfl)
theorem dX0_closes_62 : decode cX0_closes 62 = .ok (.iload 5, 2) := dk_21 5 (dk_at dksX0_closes_2 15 rfl rfl)
theorem dX0_closes_64 : decode cX0_closes 64 = .ok (.iload_n 2, 1) := dk_28 (dk_at dksX0_closes_2 17 rfl rfl)
theorem dX0_closes_65 : decode cX0_closes 65 = .ok (.iload_n 3, 1) := dk_29 (dk_at dksX0_closes_2 18 rfl rfl)
theorem dX0_closes_66 : decode cX0_closes 66 = .ok (.isub, 1) := dk_100 (dk_at dksX0_closes_2 19 rfl rfl)
theorem dX0_closes_67 : decode cX0_closes 67 = .ok (.ishl, 1) := dk_120 (dk_at dksX0_closes_2 20 rfl rfl)
theorem dX0_closes_68 : decode cX0_closes 68 = .ok (.ior, 1) := dk_128 (dk_at dksX0_closes_2 21 rfl rfl)
theorem dX0_closes_69 : decode cX0_closes 69 = .ok (.iastore, 1) := dk_79 (dk_at dksX0_closes_2 22 rfl rfl)
theorem dX0_closes_70 : decode cX0_closes 70 = .ok (.aload_n 0, 1) := dk_42 (dk_at dksX0_closes_2 23 rfl rfl)
theorem dX0_closes_71 : decode cX0_closes 71 = .ok (.getfield 61, 3) := dk_180 0 61 (dk_at dksX0_closes_3 0 rfl rfl)
theorem dX0_closes_74 : decode cX0_closes 74 = .ok (.iload_n 1, 1) := dk_27 (dk_at dksX0_closes_3 3 rfl rfl)
theorem dX0_closes_75 : decode cX0_closes 75 = .ok (.dup2, 1) := dk_92 (dk_at dksX0_closes_3 4 rfl rfl)
theorem dX0_closes_76 : decode cX0_closes 76 = .ok (.iaload, 1) := dk_46 (dk_at dksX0_closes_3 5 rfl rfl)
theorem dX0_closes_77 : decode cX0_closes 77 = .ok (.iload_n 3, 1) := dk_29 (dk_at dksX0_closes_3 6 rfl rfl)
theorem dX0_closes_78 : decode cX0_closes 78 = .ok (.isub, 1) := dk_100 (dk_at dksX0_closes_3 7 rfl rfl)
theorem dX0_closes_79 : decode cX0_closes 79 = .ok (.iastore, 1) := dk_79 (dk_at dksX0_closes_3 8 rfl rfl)
theorem dX0_closes_80 : decode cX0_closes 80 = .ok (.return_, 1) := dk_177 (dk_at dksX0_closes_3 9 rfl rfl)
abbrev cX0_go : ByteArray := prog_1_method_55_code
def yX0_go : MethodName := ⟨RX0, "go", "(II)I"⟩
def dkwX0_go_3 : List UInt8 := [108, 62, 167, 255, 226, 42, 27, 182, 0, 68, 172]
abbrev dktX0_go_3 : List UInt8 := dkwX0_go_3 ++ []
def dkwX0_go_2 : List UInt8 := [158, 0, 29, 29, 158, 0, 25, 42, 28, 29, 108, 16, 10, 112, 4, 100, 27, 182, 1, 149, 87, 29, 16, 10]
abbrev dktX0_go_2 : List UInt8 := dkwX0_go_2 ++ dktX0_go_3
def dkwX0_go_1 : List UInt8 := [21, 4, 42, 180, 0, 18, 162, 0, 14, 29, 16, 10, 104, 62, 132, 4, 1, 167, 255, 239, 42, 180, 0, 18]
abbrev dktX0_go_1 : List UInt8 := dkwX0_go_1 ++ dktX0_go_2
def dkwX0_go_0 : List UInt8 := [27, 184, 0, 55, 153, 0, 11, 42, 28, 182, 1, 152, 154, 0, 6, 16, 254, 172, 4, 62, 4, 54, 4]
abbrev dktX0_go_0 : List UInt8 := dkwX0_go_0 ++ dktX0_go_1
theorem dksX0_go_0 : cX0_go.data.toList.drop 0 = dktX0_go_0 := by decide +kernel
theorem dksX0_go_1 : cX0_go.data.toList.drop 23 = dktX0_go_1 := dk_seg dksX0_go_0 23 rfl rfl
theorem dksX0_go_2 : cX0_go.data.toList.drop 47 = dktX0_go_2 := dk_seg dksX0_go_1 24 rfl rfl
theorem dksX0_go_3 : cX0_go.data.toList.drop 71 = dktX0_go_3 := dk_seg dksX0_go_2 24 rfl rfl
theorem dX0_go_0 : decode cX0_go 0 = .ok (.iload_n 1, 1) := dk_27 (dk_at dksX0_go_0 0 rfl rfl)
theorem dX0_go_1 : decode cX0_go 1 = .ok (.invokestatic 55, 3) := dk_184 0 55 (dk_at dksX0_go_0 1 rfl rfl)
theorem dX0_go_4 : decode cX0_go 4 = .ok (.ifCond .eq 11, 3) := dk_153 0 11 (dk_at dksX0_go_0 4 rfl rfl)
theorem dX0_go_7 : decode cX0_go 7 = .ok (.aload_n 0, 1) := dk_42 (dk_at dksX0_go_0 7 rfl rfl)
theorem dX0_go_8 : decode cX0_go 8 = .ok (.iload_n 2, 1) := dk_28 (dk_at dksX0_go_0 8 rfl rfl)
theorem dX0_go_9 : decode cX0_go 9 = .ok (.invokevirtual 408, 3) := dk_182 1 152 (dk_at dksX0_go_0 9 rfl rfl)
theorem dX0_go_12 : decode cX0_go 12 = .ok (.ifCond .ne 6, 3) := dk_154 0 6 (dk_at dksX0_go_0 12 rfl rfl)
theorem dX0_go_15 : decode cX0_go 15 = .ok (.bipush (-2), 2) := dk_16 254 (dk_at dksX0_go_0 15 rfl rfl)
theorem dX0_go_17 : decode cX0_go 17 = .ok (.ireturn, 1) := dk_172 (dk_at dksX0_go_0 17 rfl rfl)
theorem dX0_go_18 : decode cX0_go 18 = .ok (.iconst 1, 1) := dk_4 (dk_at dksX0_go_0 18 rfl rfl)
theorem dX0_go_19 : decode cX0_go 19 = .ok (.istore_n 3, 1) := dk_62 (dk_at dksX0_go_0 19 rfl rfl)
theorem dX0_go_20 : decode cX0_go 20 = .ok (.iconst 1, 1) := dk_4 (dk_at dksX0_go_0 20 rfl rfl)
theorem dX0_go_21 : decode cX0_go 21 = .ok (.istore 4, 2) := dk_54 4 (dk_at dksX0_go_0 21 rfl rfl)
theorem dX0_go_23 : decode cX0_go 23 = .ok (.iload 4, 2) := dk_21 4 (dk_at dksX0_go_1 0 rfl rfl)
theorem dX0_go_25 : decode cX0_go 25 = .ok (.aload_n 0, 1) := dk_42 (dk_at dksX0_go_1 2 rfl rfl)
theorem dX0_go_26 : decode cX0_go 26 = .ok (.getfield 18, 3) := dk_180 0 18 (dk_at dksX0_go_1 3 rfl rfl)
theorem dX0_go_29 : decode cX0_go 29 = .ok (.if_icmp .ge 14, 3) := dk_162 0 14 (dk_at dksX0_go_1 6 rfl rfl)
theorem dX0_go_32 : decode cX0_go 32 = .ok (.iload_n 3, 1) := dk_29 (dk_at dksX0_go_1 9 rfl rfl)
theorem dX0_go_33 : decode cX0_go 33 = .ok (.bipush 10, 2) := dk_16 10 (dk_at dksX0_go_1 10 rfl rfl)
theorem dX0_go_35 : decode cX0_go 35 = .ok (.imul, 1) := dk_104 (dk_at dksX0_go_1 12 rfl rfl)
theorem dX0_go_36 : decode cX0_go 36 = .ok (.istore_n 3, 1) := dk_62 (dk_at dksX0_go_1 13 rfl rfl)
theorem dX0_go_37 : decode cX0_go 37 = .ok (.iinc 4 1, 3) := dk_132 4 1 (dk_at dksX0_go_1 14 rfl rfl)
theorem dX0_go_40 : decode cX0_go 40 = .ok (.goto (-17), 3) := dk_167 255 239 (dk_at dksX0_go_1 17 rfl rfl)
theorem dX0_go_43 : decode cX0_go 43 = .ok (.aload_n 0, 1) := dk_42 (dk_at dksX0_go_1 20 rfl rfl)
theorem dX0_go_44 : decode cX0_go 44 = .ok (.getfield 18, 3) := dk_180 0 18 (dk_at dksX0_go_1 21 rfl rfl)
theorem dX0_go_47 : decode cX0_go 47 = .ok (.ifCond .le 29, 3) := dk_158 0 29 (dk_at dksX0_go_2 0 rfl rfl)
theorem dX0_go_50 : decode cX0_go 50 = .ok (.iload_n 3, 1) := dk_29 (dk_at dksX0_go_2 3 rfl rfl)
theorem dX0_go_51 : decode cX0_go 51 = .ok (.ifCond .le 25, 3) := dk_158 0 25 (dk_at dksX0_go_2 4 rfl rfl)
theorem dX0_go_54 : decode cX0_go 54 = .ok (.aload_n 0, 1) := dk_42 (dk_at dksX0_go_2 7 rfl rfl)
theorem dX0_go_55 : decode cX0_go 55 = .ok (.iload_n 2, 1) := dk_28 (dk_at dksX0_go_2 8 rfl rfl)
theorem dX0_go_56 : decode cX0_go 56 = .ok (.iload_n 3, 1) := dk_29 (dk_at dksX0_go_2 9 rfl rfl)
theorem dX0_go_57 : decode cX0_go 57 = .ok (.idiv, 1) := dk_108 (dk_at dksX0_go_2 10 rfl rfl)
theorem dX0_go_58 : decode cX0_go 58 = .ok (.bipush 10, 2) := dk_16 10 (dk_at dksX0_go_2 11 rfl rfl)
theorem dX0_go_60 : decode cX0_go 60 = .ok (.irem, 1) := dk_112 (dk_at dksX0_go_2 13 rfl rfl)
theorem dX0_go_61 : decode cX0_go 61 = .ok (.iconst 1, 1) := dk_4 (dk_at dksX0_go_2 14 rfl rfl)
theorem dX0_go_62 : decode cX0_go 62 = .ok (.isub, 1) := dk_100 (dk_at dksX0_go_2 15 rfl rfl)
theorem dX0_go_63 : decode cX0_go 63 = .ok (.iload_n 1, 1) := dk_27 (dk_at dksX0_go_2 16 rfl rfl)
theorem dX0_go_64 : decode cX0_go 64 = .ok (.invokevirtual 405, 3) := dk_182 1 149 (dk_at dksX0_go_2 17 rfl rfl)
theorem dX0_go_67 : decode cX0_go 67 = .ok (.pop, 1) := dk_87 (dk_at dksX0_go_2 20 rfl rfl)
theorem dX0_go_68 : decode cX0_go 68 = .ok (.iload_n 3, 1) := dk_29 (dk_at dksX0_go_2 21 rfl rfl)
theorem dX0_go_69 : decode cX0_go 69 = .ok (.bipush 10, 2) := dk_16 10 (dk_at dksX0_go_2 22 rfl rfl)
theorem dX0_go_71 : decode cX0_go 71 = .ok (.idiv, 1) := dk_108 (dk_at dksX0_go_3 0 rfl rfl)
theorem dX0_go_72 : decode cX0_go 72 = .ok (.istore_n 3, 1) := dk_62 (dk_at dksX0_go_3 1 rfl rfl)
theorem dX0_go_73 : decode cX0_go 73 = .ok (.goto (-30), 3) := dk_167 255 226 (dk_at dksX0_go_3 2 rfl rfl)
theorem dX0_go_76 : decode cX0_go 76 = .ok (.aload_n 0, 1) := dk_42 (dk_at dksX0_go_3 5 rfl rfl)
theorem dX0_go_77 : decode cX0_go 77 = .ok (.iload_n 1, 1) := dk_27 (dk_at dksX0_go_3 6 rfl rfl)
theorem dX0_go_78 : decode cX0_go 78 = .ok (.invokevirtual 68, 3) := dk_182 0 68 (dk_at dksX0_go_3 7 rfl rfl)
theorem dX0_go_81 : decode cX0_go 81 = .ok (.ireturn, 1) := dk_172 (dk_at dksX0_go_3 10 rfl rfl)
abbrev cX0_isOrder : ByteArray := prog_1_method_54_code
def yX0_isOrder : MethodName := ⟨RX0, "isOrder", "(I)Z"⟩
def dkwX0_isOrder_3 : List UInt8 := [160, 0, 7, 4, 167, 0, 4, 3, 172]
abbrev dktX0_isOrder_3 : List UInt8 := dkwX0_isOrder_3 ++ []
def dkwX0_isOrder_2 : List UInt8 := [61, 132, 4, 1, 167, 255, 211, 27, 155, 0, 22, 28, 154, 0, 18, 29, 184, 0, 72, 42, 180, 0, 18]
abbrev dktX0_isOrder_2 : List UInt8 := dkwX0_isOrder_2 ++ dktX0_isOrder_3
def dkwX0_isOrder_1 : List UInt8 := [29, 42, 21, 5, 182, 0, 79, 153, 0, 10, 4, 21, 5, 120, 167, 0, 4, 3, 128, 62, 28, 16, 10, 108]
abbrev dktX0_isOrder_1 : List UInt8 := dkwX0_isOrder_1 ++ dktX0_isOrder_2
def dkwX0_isOrder_0 : List UInt8 := [27, 61, 3, 62, 3, 54, 4, 21, 4, 42, 180, 0, 18, 162, 0, 42, 28, 16, 10, 112, 4, 100, 54, 5]
abbrev dktX0_isOrder_0 : List UInt8 := dkwX0_isOrder_0 ++ dktX0_isOrder_1
theorem dksX0_isOrder_0 : cX0_isOrder.data.toList.drop 0 = dktX0_isOrder_0 := by decide +kernel
theorem dksX0_isOrder_1 : cX0_isOrder.data.toList.drop 24 = dktX0_isOrder_1 := dk_seg dksX0_isOrder_0 24 rfl rfl
theorem dksX0_isOrder_2 : cX0_isOrder.data.toList.drop 48 = dktX0_isOrder_2 := dk_seg dksX0_isOrder_1 24 rfl rfl
theorem dksX0_isOrder_3 : cX0_isOrder.data.toList.drop 71 = dktX0_isOrder_3 := dk_seg dksX0_isOrder_2 23 rfl rfl
theorem dX0_isOrder_0 : decode cX0_isOrder 0 = .ok (.iload_n 1, 1) := dk_27 (dk_at dksX0_isOrder_0 0 rfl rfl)
theorem dX0_isOrder_1 : decode cX0_isOrder 1 = .ok (.istore_n 2, 1) := dk_61 (dk_at dksX0_isOrder_0 1 rfl rfl)
theorem dX0_isOrder_2 : decode cX0_isOrder 2 = .ok (.iconst 0, 1) := dk_3 (dk_at dksX0_isOrder_0 2 rfl rfl)
theorem dX0_isOrder_3 : decode cX0_isOrder 3 = .ok (.istore_n 3, 1) := dk_62 (dk_at dksX0_isOrder_0 3 rfl rfl)
theorem dX0_isOrder_4 : decode cX0_isOrder 4 = .ok (.iconst 0, 1) := dk_3 (dk_at dksX0_isOrder_0 4 rfl rfl)
theorem dX0_isOrder_5 : decode cX0_isOrder 5 = .ok (.istore 4, 2) := dk_54 4 (dk_at dksX0_isOrder_0 5 rfl rfl)
theorem dX0_isOrder_7 : decode cX0_isOrder 7 = .ok (.iload 4, 2) := dk_21 4 (dk_at dksX0_isOrder_0 7 rfl rfl)
theorem dX0_isOrder_9 : decode cX0_isOrder 9 = .ok (.aload_n 0, 1) := dk_42 (dk_at dksX0_isOrder_0 9 rfl rfl)
theorem dX0_isOrder_10 : decode cX0_isOrder 10 = .ok (.getfield 18, 3) := dk_180 0 18 (dk_at dksX0_isOrder_0 10 rfl rfl)
theorem dX0_isOrder_13 : decode cX0_isOrder 13 = .ok (.if_icmp .ge 42, 3) := dk_162 0 42 (dk_at dksX0_isOrder_0 13 rfl rfl)
theorem dX0_isOrder_16 : decode cX0_isOrder 16 = .ok (.iload_n 2, 1) := dk_28 (dk_at dksX0_isOrder_0 16 rfl rfl)
theorem dX0_isOrder_17 : decode cX0_isOrder 17 = .ok (.bipush 10, 2) := dk_16 10 (dk_at dksX0_isOrder_0 17 rfl rfl)
theorem dX0_isOrder_19 : decode cX0_isOrder 19 = .ok (.irem, 1) := dk_112 (dk_at dksX0_isOrder_0 19 rfl rfl)
theorem dX0_isOrder_20 : decode cX0_isOrder 20 = .ok (.iconst 1, 1) := dk_4 (dk_at dksX0_isOrder_0 20 rfl rfl)
theorem dX0_isOrder_21 : decode cX0_isOrder 21 = .ok (.isub, 1) := dk_100 (dk_at dksX0_isOrder_0 21 rfl rfl)
theorem dX0_isOrder_22 : decode cX0_isOrder 22 = .ok (.istore 5, 2) := dk_54 5 (dk_at dksX0_isOrder_0 22 rfl rfl)
theorem dX0_isOrder_24 : decode cX0_isOrder 24 = .ok (.iload_n 3, 1) := dk_29 (dk_at dksX0_isOrder_1 0 rfl rfl)
theorem dX0_isOrder_25 : decode cX0_isOrder 25 = .ok (.aload_n 0, 1) := dk_42 (dk_at dksX0_isOrder_1 1 rfl rfl)
theorem dX0_isOrder_26 : decode cX0_isOrder 26 = .ok (.iload 5, 2) := dk_21 5 (dk_at dksX0_isOrder_1 2 rfl rfl)
theorem dX0_isOrder_28 : decode cX0_isOrder 28 = .ok (.invokevirtual 79, 3) := dk_182 0 79 (dk_at dksX0_isOrder_1 4 rfl rfl)
theorem dX0_isOrder_31 : decode cX0_isOrder 31 = .ok (.ifCond .eq 10, 3) := dk_153 0 10 (dk_at dksX0_isOrder_1 7 rfl rfl)
theorem dX0_isOrder_34 : decode cX0_isOrder 34 = .ok (.iconst 1, 1) := dk_4 (dk_at dksX0_isOrder_1 10 rfl rfl)
theorem dX0_isOrder_35 : decode cX0_isOrder 35 = .ok (.iload 5, 2) := dk_21 5 (dk_at dksX0_isOrder_1 11 rfl rfl)
theorem dX0_isOrder_37 : decode cX0_isOrder 37 = .ok (.ishl, 1) := dk_120 (dk_at dksX0_isOrder_1 13 rfl rfl)
theorem dX0_isOrder_38 : decode cX0_isOrder 38 = .ok (.goto 4, 3) := dk_167 0 4 (dk_at dksX0_isOrder_1 14 rfl rfl)
theorem dX0_isOrder_41 : decode cX0_isOrder 41 = .ok (.iconst 0, 1) := dk_3 (dk_at dksX0_isOrder_1 17 rfl rfl)
theorem dX0_isOrder_42 : decode cX0_isOrder 42 = .ok (.ior, 1) := dk_128 (dk_at dksX0_isOrder_1 18 rfl rfl)
theorem dX0_isOrder_43 : decode cX0_isOrder 43 = .ok (.istore_n 3, 1) := dk_62 (dk_at dksX0_isOrder_1 19 rfl rfl)
theorem dX0_isOrder_44 : decode cX0_isOrder 44 = .ok (.iload_n 2, 1) := dk_28 (dk_at dksX0_isOrder_1 20 rfl rfl)
theorem dX0_isOrder_45 : decode cX0_isOrder 45 = .ok (.bipush 10, 2) := dk_16 10 (dk_at dksX0_isOrder_1 21 rfl rfl)
theorem dX0_isOrder_47 : decode cX0_isOrder 47 = .ok (.idiv, 1) := dk_108 (dk_at dksX0_isOrder_1 23 rfl rfl)
theorem dX0_isOrder_48 : decode cX0_isOrder 48 = .ok (.istore_n 2, 1) := dk_61 (dk_at dksX0_isOrder_2 0 rfl rfl)
theorem dX0_isOrder_49 : decode cX0_isOrder 49 = .ok (.iinc 4 1, 3) := dk_132 4 1 (dk_at dksX0_isOrder_2 1 rfl rfl)
theorem dX0_isOrder_52 : decode cX0_isOrder 52 = .ok (.goto (-45), 3) := dk_167 255 211 (dk_at dksX0_isOrder_2 4 rfl rfl)
theorem dX0_isOrder_55 : decode cX0_isOrder 55 = .ok (.iload_n 1, 1) := dk_27 (dk_at dksX0_isOrder_2 7 rfl rfl)
theorem dX0_isOrder_56 : decode cX0_isOrder 56 = .ok (.ifCond .lt 22, 3) := dk_155 0 22 (dk_at dksX0_isOrder_2 8 rfl rfl)
theorem dX0_isOrder_59 : decode cX0_isOrder 59 = .ok (.iload_n 2, 1) := dk_28 (dk_at dksX0_isOrder_2 11 rfl rfl)
theorem dX0_isOrder_60 : decode cX0_isOrder 60 = .ok (.ifCond .ne 18, 3) := dk_154 0 18 (dk_at dksX0_isOrder_2 12 rfl rfl)
theorem dX0_isOrder_63 : decode cX0_isOrder 63 = .ok (.iload_n 3, 1) := dk_29 (dk_at dksX0_isOrder_2 15 rfl rfl)
theorem dX0_isOrder_64 : decode cX0_isOrder 64 = .ok (.invokestatic 72, 3) := dk_184 0 72 (dk_at dksX0_isOrder_2 16 rfl rfl)
theorem dX0_isOrder_67 : decode cX0_isOrder 67 = .ok (.aload_n 0, 1) := dk_42 (dk_at dksX0_isOrder_2 19 rfl rfl)
theorem dX0_isOrder_68 : decode cX0_isOrder 68 = .ok (.getfield 18, 3) := dk_180 0 18 (dk_at dksX0_isOrder_2 20 rfl rfl)
theorem dX0_isOrder_71 : decode cX0_isOrder 71 = .ok (.if_icmp .ne 7, 3) := dk_160 0 7 (dk_at dksX0_isOrder_3 0 rfl rfl)
theorem dX0_isOrder_74 : decode cX0_isOrder 74 = .ok (.iconst 1, 1) := dk_4 (dk_at dksX0_isOrder_3 3 rfl rfl)
theorem dX0_isOrder_75 : decode cX0_isOrder 75 = .ok (.goto 4, 3) := dk_167 0 4 (dk_at dksX0_isOrder_3 4 rfl rfl)
theorem dX0_isOrder_78 : decode cX0_isOrder 78 = .ok (.iconst 0, 1) := dk_3 (dk_at dksX0_isOrder_3 7 rfl rfl)
theorem dX0_isOrder_79 : decode cX0_isOrder 79 = .ok (.ireturn, 1) := dk_172 (dk_at dksX0_isOrder_3 8 rfl rfl)
abbrev cX0_night : ByteArray := prog_1_method_58_code
def yX0_night : MethodName := ⟨RX0, "night", "()I"⟩
def dkwX0_night_0 : List UInt8 := [42, 180, 0, 82, 17, 3, 231, 160, 0, 6, 16, 253, 172, 42, 182, 1, 155, 42, 182, 1, 158, 172]
abbrev dktX0_night_0 : List UInt8 := dkwX0_night_0 ++ []
theorem dksX0_night_0 : cX0_night.data.toList.drop 0 = dktX0_night_0 := by decide +kernel
theorem dX0_night_0 : decode cX0_night 0 = .ok (.aload_n 0, 1) := dk_42 (dk_at dksX0_night_0 0 rfl rfl)
theorem dX0_night_1 : decode cX0_night 1 = .ok (.getfield 82, 3) := dk_180 0 82 (dk_at dksX0_night_0 1 rfl rfl)
theorem dX0_night_4 : decode cX0_night 4 = .ok (.sipush 999, 3) := dk_17 3 231 (dk_at dksX0_night_0 4 rfl rfl)
theorem dX0_night_7 : decode cX0_night 7 = .ok (.if_icmp .ne 6, 3) := dk_160 0 6 (dk_at dksX0_night_0 7 rfl rfl)
theorem dX0_night_10 : decode cX0_night 10 = .ok (.bipush (-3), 2) := dk_16 253 (dk_at dksX0_night_0 10 rfl rfl)
theorem dX0_night_12 : decode cX0_night 12 = .ok (.ireturn, 1) := dk_172 (dk_at dksX0_night_0 12 rfl rfl)
theorem dX0_night_13 : decode cX0_night 13 = .ok (.aload_n 0, 1) := dk_42 (dk_at dksX0_night_0 13 rfl rfl)
theorem dX0_night_14 : decode cX0_night 14 = .ok (.invokevirtual 411, 3) := dk_182 1 155 (dk_at dksX0_night_0 14 rfl rfl)
theorem dX0_night_17 : decode cX0_night 17 = .ok (.aload_n 0, 1) := dk_42 (dk_at dksX0_night_0 17 rfl rfl)
theorem dX0_night_18 : decode cX0_night 18 = .ok (.invokevirtual 414, 3) := dk_182 1 158 (dk_at dksX0_night_0 18 rfl rfl)
theorem dX0_night_21 : decode cX0_night 21 = .ok (.ireturn, 1) := dk_172 (dk_at dksX0_night_0 21 rfl rfl)
abbrev cX0_passes : ByteArray := prog_1_method_56_code
def yX0_passes : MethodName := ⟨RX0, "passes", "()V"⟩
def dkwX0_passes_5 : List UInt8 := [132, 1, 1, 167, 255, 231, 42, 89, 180, 0, 82, 4, 96, 181, 0, 82, 177]
abbrev dktX0_passes_5 : List UInt8 := dkwX0_passes_5 ++ []
def dkwX0_passes_4 : List UInt8 := [3, 60, 27, 7, 162, 0, 26, 42, 180, 0, 61, 27, 92, 46, 42, 180, 1, 58, 8, 27, 96, 46, 96, 79]
abbrev dktX0_passes_4 : List UInt8 := dkwX0_passes_4 ++ dktX0_passes_5
def dkwX0_passes_3 : List UInt8 := [162, 0, 24, 42, 180, 0, 47, 27, 50, 42, 180, 1, 58, 27, 46, 181, 0, 88, 132, 1, 1, 167, 255, 230]
abbrev dktX0_passes_3 : List UInt8 := dkwX0_passes_3 ++ dktX0_passes_4
def dkwX0_passes_2 : List UInt8 := [42, 180, 0, 61, 27, 46, 100, 184, 0, 1, 79, 132, 1, 1, 167, 255, 223, 3, 60, 27, 42, 180, 0, 18]
abbrev dktX0_passes_2 : List UInt8 := dkwX0_passes_2 ++ dktX0_passes_3
def dkwX0_passes_1 : List UInt8 := [167, 255, 234, 3, 60, 27, 7, 162, 0, 34, 42, 180, 1, 58, 8, 27, 96, 42, 27, 182, 0, 115, 16, 24]
abbrev dktX0_passes_1 : List UInt8 := dkwX0_passes_1 ++ dktX0_passes_2
def dkwX0_passes_0 : List UInt8 := [3, 60, 27, 42, 180, 0, 18, 162, 0, 20, 42, 180, 1, 58, 27, 42, 27, 182, 0, 106, 79, 132, 1, 1]
abbrev dktX0_passes_0 : List UInt8 := dkwX0_passes_0 ++ dktX0_passes_1
theorem dksX0_passes_0 : cX0_passes.data.toList.drop 0 = dktX0_passes_0 := by decide +kernel
theorem dksX0_passes_1 : cX0_passes.data.toList.drop 24 = dktX0_passes_1 := dk_seg dksX0_passes_0 24 rfl rfl
theorem dksX0_passes_2 : cX0_passes.data.toList.drop 48 = dktX0_passes_2 := dk_seg dksX0_passes_1 24 rfl rfl
theorem dksX0_passes_3 : cX0_passes.data.toList.drop 72 = dktX0_passes_3 := dk_seg dksX0_passes_2 24 rfl rfl
theorem dksX0_passes_4 : cX0_passes.data.toList.drop 96 = dktX0_passes_4 := dk_seg dksX0_passes_3 24 rfl rfl
theorem dksX0_passes_5 : cX0_passes.data.toList.drop 120 = dktX0_passes_5 := dk_seg dksX0_passes_4 24 rfl rfl
theorem dX0_passes_0 : decode cX0_passes 0 = .ok (.iconst 0, 1) := dk_3 (dk_at dksX0_passes_0 0 rfl rfl)
theorem dX0_passes_1 : decode cX0_passes 1 = .ok (.istore_n 1, 1) := dk_60 (dk_at dksX0_passes_0 1 rfl rfl)
theorem dX0_passes_2 : decode cX0_passes 2 = .ok (.iload_n 1, 1) := dk_27 (dk_at dksX0_passes_0 2 rfl rfl)
theorem dX0_passes_3 : decode cX0_passes 3 = .ok (.aload_n 0, 1) := dk_42 (dk_at dksX0_passes_0 3 rfl rfl)
theorem dX0_passes_4 : decode cX0_passes 4 = .ok (.getfield 18, 3) := dk_180 0 18 (dk_at dksX0_passes_0 4 rfl rfl)
theorem dX0_passes_7 : decode cX0_passes 7 = .ok (.if_icmp .ge 20, 3) := dk_162 0 20 (dk_at dksX0_passes_0 7 rfl rfl)
theorem dX0_passes_10 : decode cX0_passes 10 = .ok (.aload_n 0, 1) := dk_42 (dk_at dksX0_passes_0 10 rfl rfl)
theorem dX0_passes_11 : decode cX0_passes 11 = .ok (.getfield 314, 3) := dk_180 1 58 (dk_at dksX0_passes_0 11 rfl rfl)
theorem dX0_passes_14 : decode cX0_passes 14 = .ok (.iload_n 1, 1) := dk_27 (dk_at dksX0_passes_0 14 rfl rfl)
theorem dX0_passes_15 : decode cX0_passes 15 = .ok (.aload_n 0, 1) := dk_42 (dk_at dksX0_passes_0 15 rfl rfl)
theorem dX0_passes_16 : decode cX0_passes 16 = .ok (.iload_n 1, 1) := dk_27 (dk_at dksX0_passes_0 16 rfl rfl)
theorem dX0_passes_17 : decode cX0_passes 17 = .ok (.invokevirtual 106, 3) := dk_182 0 106 (dk_at dksX0_passes_0 17 rfl rfl)
theorem dX0_passes_20 : decode cX0_passes 20 = .ok (.iastore, 1) := dk_79 (dk_at dksX0_passes_0 20 rfl rfl)
theorem dX0_passes_21 : decode cX0_passes 21 = .ok (.iinc 1 1, 3) := dk_132 1 1 (dk_at dksX0_passes_0 21 rfl rfl)
theorem dX0_passes_24 : decode cX0_passes 24 = .ok (.goto (-22), 3) := dk_167 255 234 (dk_at dksX0_passes_1 0 rfl rfl)
theorem dX0_passes_27 : decode cX0_passes 27 = .ok (.iconst 0, 1) := dk_3 (dk_at dksX0_passes_1 3 rfl rfl)
theorem dX0_passes_28 : decode cX0_passes 28 = .ok (.istore_n 1, 1) := dk_60 (dk_at dksX0_passes_1 4 rfl rfl)
theorem dX0_passes_29 : decode cX0_passes 29 = .ok (.iload_n 1, 1) := dk_27 (dk_at dksX0_passes_1 5 rfl rfl)
theorem dX0_passes_30 : decode cX0_passes 30 = .ok (.iconst 4, 1) := dk_7 (dk_at dksX0_passes_1 6 rfl rfl)
theorem dX0_passes_31 : decode cX0_passes 31 = .ok (.if_icmp .ge 34, 3) := dk_162 0 34 (dk_at dksX0_passes_1 7 rfl rfl)
theorem dX0_passes_34 : decode cX0_passes 34 = .ok (.aload_n 0, 1) := dk_42 (dk_at dksX0_passes_1 10 rfl rfl)
theorem dX0_passes_35 : decode cX0_passes 35 = .ok (.getfield 314, 3) := dk_180 1 58 (dk_at dksX0_passes_1 11 rfl rfl)
theorem dX0_passes_38 : decode cX0_passes 38 = .ok (.iconst 5, 1) := dk_8 (dk_at dksX0_passes_1 14 rfl rfl)
theorem dX0_passes_39 : decode cX0_passes 39 = .ok (.iload_n 1, 1) := dk_27 (dk_at dksX0_passes_1 15 rfl rfl)
theorem dX0_passes_40 : decode cX0_passes 40 = .ok (.iadd, 1) := dk_96 (dk_at dksX0_passes_1 16 rfl rfl)
theorem dX0_passes_41 : decode cX0_passes 41 = .ok (.aload_n 0, 1) := dk_42 (dk_at dksX0_passes_1 17 rfl rfl)
theorem dX0_passes_42 : decode cX0_passes 42 = .ok (.iload_n 1, 1) := dk_27 (dk_at dksX0_passes_1 18 rfl rfl)
theorem dX0_passes_43 : decode cX0_passes 43 = .ok (.invokevirtual 115, 3) := dk_182 0 115 (dk_at dksX0_passes_1 19 rfl rfl)
theorem dX0_passes_46 : decode cX0_passes 46 = .ok (.bipush 24, 2) := dk_16 24 (dk_at dksX0_passes_1 22 rfl rfl)
theorem dX0_passes_48 : decode cX0_passes 48 = .ok (.aload_n 0, 1) := dk_42 (dk_at dksX0_passes_2 0 rfl rfl)
theorem dX0_passes_49 : decode cX0_passes 49 = .ok (.getfield 61, 3) := dk_180 0 61 (dk_at dksX0_passes_2 1 rfl rfl)
theorem dX0_passes_52 : decode cX0_passes 52 = .ok (.iload_n 1, 1) := dk_27 (dk_at dksX0_passes_2 4 rfl rfl)
theorem dX0_passes_53 : decode cX0_passes 53 = .ok (.iaload, 1) := dk_46 (dk_at dksX0_passes_2 5 rfl rfl)
theorem dX0_passes_54 : decode cX0_passes 54 = .ok (.isub, 1) := dk_100 (dk_at dksX0_passes_2 6 rfl rfl)
theorem dX0_passes_55 : decode cX0_passes 55 = .ok (.invokestatic 1, 3) := dk_184 0 1 (dk_at dksX0_passes_2 7 rfl rfl)
theorem dX0_passes_58 : decode cX0_passes 58 = .ok (.iastore, 1) := dk_79 (dk_at dksX0_passes_2 10 rfl rfl)
theorem dX0_passes_59 : decode cX0_passes 59 = .ok (.iinc 1 1, 3) := dk_132 1 1 (dk_at dksX0_passes_2 11 rfl rfl)
theorem dX0_passes_62 : decode cX0_passes 62 = .ok (.goto (-33), 3) := dk_167 255 223 (dk_at dksX0_passes_2 14 rfl rfl)
theorem dX0_passes_65 : decode cX0_passes 65 = .ok (.iconst 0, 1) := dk_3 (dk_at dksX0_passes_2 17 rfl rfl)
theorem dX0_passes_66 : decode cX0_passes 66 = .ok (.istore_n 1, 1) := dk_60 (dk_at dksX0_passes_2 18 rfl rfl)
theorem dX0_passes_67 : decode cX0_passes 67 = .ok (.iload_n 1, 1) := dk_27 (dk_at dksX0_passes_2 19 rfl rfl)
theorem dX0_passes_68 : decode cX0_passes 68 = .ok (.aload_n 0, 1) := dk_42 (dk_at dksX0_passes_2 20 rfl rfl)
theorem dX0_passes_69 : decode cX0_passes 69 = .ok (.getfield 18, 3) := dk_180 0 18 (dk_at dksX0_passes_2 21 rfl rfl)
theorem dX0_passes_72 : decode cX0_passes 72 = .ok (.if_icmp .ge 24, 3) := dk_162 0 24 (dk_at dksX0_passes_3 0 rfl rfl)
theorem dX0_passes_75 : decode cX0_passes 75 = .ok (.aload_n 0, 1) := dk_42 (dk_at dksX0_passes_3 3 rfl rfl)
theorem dX0_passes_76 : decode cX0_passes 76 = .ok (.getfield 47, 3) := dk_180 0 47 (dk_at dksX0_passes_3 4 rfl rfl)
theorem dX0_passes_79 : decode cX0_passes 79 = .ok (.iload_n 1, 1) := dk_27 (dk_at dksX0_passes_3 7 rfl rfl)
theorem dX0_passes_80 : decode cX0_passes 80 = .ok (.aaload, 1) := dk_50 (dk_at dksX0_passes_3 8 rfl rfl)
theorem dX0_passes_81 : decode cX0_passes 81 = .ok (.aload_n 0, 1) := dk_42 (dk_at dksX0_passes_3 9 rfl rfl)
theorem dX0_passes_82 : decode cX0_passes 82 = .ok (.getfield 314, 3) := dk_180 1 58 (dk_at dksX0_passes_3 10 rfl rfl)
theorem dX0_passes_85 : decode cX0_passes 85 = .ok (.iload_n 1, 1) := dk_27 (dk_at dksX0_passes_3 13 rfl rfl)
theorem dX0_passes_86 : decode cX0_passes 86 = .ok (.iaload, 1) := dk_46 (dk_at dksX0_passes_3 14 rfl rfl)
theorem dX0_passes_87 : decode cX0_passes 87 = .ok (.putfield 88, 3) := dk_181 0 88 (dk_at dksX0_passes_3 15 rfl rfl)
theorem dX0_passes_90 : decode cX0_passes 90 = .ok (.iinc 1 1, 3) := dk_132 1 1 (dk_at dksX0_passes_3 18 rfl rfl)
theorem dX0_passes_93 : decode cX0_passes 93 = .ok (.goto (-26), 3) := dk_167 255 230 (dk_at dksX0_passes_3 21 rfl rfl)
theorem dX0_passes_96 : decode cX0_passes 96 = .ok (.iconst 0, 1) := dk_3 (dk_at dksX0_passes_4 0 rfl rfl)
theorem dX0_passes_97 : decode cX0_passes 97 = .ok (.istore_n 1, 1) := dk_60 (dk_at dksX0_passes_4 1 rfl rfl)
theorem dX0_passes_98 : decode cX0_passes 98 = .ok (.iload_n 1, 1) := dk_27 (dk_at dksX0_passes_4 2 rfl rfl)
theorem dX0_passes_99 : decode cX0_passes 99 = .ok (.iconst 4, 1) := dk_7 (dk_at dksX0_passes_4 3 rfl rfl)
theorem dX0_passes_100 : decode cX0_passes 100 = .ok (.if_icmp .ge 26, 3) := dk_162 0 26 (dk_at dksX0_passes_4 4 rfl rfl)
theorem dX0_passes_103 : decode cX0_passes 103 = .ok (.aload_n 0, 1) := dk_42 (dk_at dksX0_passes_4 7 rfl rfl)
theorem dX0_passes_104 : decode cX0_passes 104 = .ok (.getfield 61, 3) := dk_180 0 61 (dk_at dksX0_passes_4 8 rfl rfl)
theorem dX0_passes_107 : decode cX0_passes 107 = .ok (.iload_n 1, 1) := dk_27 (dk_at dksX0_passes_4 11 rfl rfl)
theorem dX0_passes_108 : decode cX0_passes 108 = .ok (.dup2, 1) := dk_92 (dk_at dksX0_passes_4 12 rfl rfl)
theorem dX0_passes_109 : decode cX0_passes 109 = .ok (.iaload, 1) := dk_46 (dk_at dksX0_passes_4 13 rfl rfl)
theorem dX0_passes_110 : decode cX0_passes 110 = .ok (.aload_n 0, 1) := dk_42 (dk_at dksX0_passes_4 14 rfl rfl)
theorem dX0_passes_111 : decode cX0_passes 111 = .ok (.getfield 314, 3) := dk_180 1 58 (dk_at dksX0_passes_4 15 rfl rfl)
theorem dX0_passes_114 : decode cX0_passes 114 = .ok (.iconst 5, 1) := dk_8 (dk_at dksX0_passes_4 18 rfl rfl)
theorem dX0_passes_115 : decode cX0_passes 115 = .ok (.iload_n 1, 1) := dk_27 (dk_at dksX0_passes_4 19 rfl rfl)
theorem dX0_passes_116 : decode cX0_passes 116 = .ok (.iadd, 1) := dk_96 (dk_at dksX0_passes_4 20 rfl rfl)
theorem dX0_passes_117 : decode cX0_passes 117 = .ok (.iaload, 1) := dk_46 (dk_at dksX0_passes_4 21 rfl rfl)
theorem dX0_passes_118 : decode cX0_passes 118 = .ok (.iadd, 1) := dk_96 (dk_at dksX0_passes_4 22 rfl rfl)
theorem dX0_passes_119 : decode cX0_passes 119 = .ok (.iastore, 1) := dk_79 (dk_at dksX0_passes_4 23 rfl rfl)
theorem dX0_passes_120 : decode cX0_passes 120 = .ok (.iinc 1 1, 3) := dk_132 1 1 (dk_at dksX0_passes_5 0 rfl rfl)
theorem dX0_passes_123 : decode cX0_passes 123 = .ok (.goto (-25), 3) := dk_167 255 231 (dk_at dksX0_passes_5 3 rfl rfl)
theorem dX0_passes_126 : decode cX0_passes 126 = .ok (.aload_n 0, 1) := dk_42 (dk_at dksX0_passes_5 6 rfl rfl)
theorem dX0_passes_127 : decode cX0_passes 127 = .ok (.dup, 1) := dk_89 (dk_at dksX0_passes_5 7 rfl rfl)
theorem dX0_passes_128 : decode cX0_passes 128 = .ok (.getfield 82, 3) := dk_180 0 82 (dk_at dksX0_passes_5 8 rfl rfl)
theorem dX0_passes_131 : decode cX0_passes 131 = .ok (.iconst 1, 1) := dk_4 (dk_at dksX0_passes_5 11 rfl rfl)
theorem dX0_passes_132 : decode cX0_passes 132 = .ok (.iadd, 1) := dk_96 (dk_at dksX0_passes_5 12 rfl rfl)
theorem dX0_passes_133 : decode cX0_passes 133 = .ok (.putfield 82, 3) := dk_181 0 82 (dk_at dksX0_passes_5 13 rfl rfl)
theorem dX0_passes_136 : decode cX0_passes 136 = .ok (.return_, 1) := dk_177 (dk_at dksX0_passes_5 16 rfl rfl)
abbrev cX0_gapsAll : ByteArray := prog_1_method_57_code
def yX0_gapsAll : MethodName := ⟨RX0, "gapsAll", "()I"⟩
def dkwX0_gapsAll_1 : List UInt8 := [172]
abbrev dktX0_gapsAll_1 : List UInt8 := dkwX0_gapsAll_1 ++ []
def dkwX0_gapsAll_0 : List UInt8 := [3, 60, 3, 61, 28, 7, 162, 0, 17, 27, 42, 28, 182, 0, 68, 96, 60, 132, 2, 1, 167, 255, 240, 27]
abbrev dktX0_gapsAll_0 : List UInt8 := dkwX0_gapsAll_0 ++ dktX0_gapsAll_1
theorem dksX0_gapsAll_0 : cX0_gapsAll.data.toList.drop 0 = dktX0_gapsAll_0 := by decide +kernel
theorem dksX0_gapsAll_1 : cX0_gapsAll.data.toList.drop 24 = dktX0_gapsAll_1 := dk_seg dksX0_gapsAll_0 24 rfl rfl
theorem dX0_gapsAll_0 : decode cX0_gapsAll 0 = .ok (.iconst 0, 1) := dk_3 (dk_at dksX0_gapsAll_0 0 rfl rfl)
theorem dX0_gapsAll_1 : decode cX0_gapsAll 1 = .ok (.istore_n 1, 1) := dk_60 (dk_at dksX0_gapsAll_0 1 rfl rfl)
theorem dX0_gapsAll_2 : decode cX0_gapsAll 2 = .ok (.iconst 0, 1) := dk_3 (dk_at dksX0_gapsAll_0 2 rfl rfl)
theorem dX0_gapsAll_3 : decode cX0_gapsAll 3 = .ok (.istore_n 2, 1) := dk_61 (dk_at dksX0_gapsAll_0 3 rfl rfl)
theorem dX0_gapsAll_4 : decode cX0_gapsAll 4 = .ok (.iload_n 2, 1) := dk_28 (dk_at dksX0_gapsAll_0 4 rfl rfl)
theorem dX0_gapsAll_5 : decode cX0_gapsAll 5 = .ok (.iconst 4, 1) := dk_7 (dk_at dksX0_gapsAll_0 5 rfl rfl)
theorem dX0_gapsAll_6 : decode cX0_gapsAll 6 = .ok (.if_icmp .ge 17, 3) := dk_162 0 17 (dk_at dksX0_gapsAll_0 6 rfl rfl)
theorem dX0_gapsAll_9 : decode cX0_gapsAll 9 = .ok (.iload_n 1, 1) := dk_27 (dk_at dksX0_gapsAll_0 9 rfl rfl)
theorem dX0_gapsAll_10 : decode cX0_gapsAll 10 = .ok (.aload_n 0, 1) := dk_42 (dk_at dksX0_gapsAll_0 10 rfl rfl)
theorem dX0_gapsAll_11 : decode cX0_gapsAll 11 = .ok (.iload_n 2, 1) := dk_28 (dk_at dksX0_gapsAll_0 11 rfl rfl)
theorem dX0_gapsAll_12 : decode cX0_gapsAll 12 = .ok (.invokevirtual 68, 3) := dk_182 0 68 (dk_at dksX0_gapsAll_0 12 rfl rfl)
theorem dX0_gapsAll_15 : decode cX0_gapsAll 15 = .ok (.iadd, 1) := dk_96 (dk_at dksX0_gapsAll_0 15 rfl rfl)
theorem dX0_gapsAll_16 : decode cX0_gapsAll 16 = .ok (.istore_n 1, 1) := dk_60 (dk_at dksX0_gapsAll_0 16 rfl rfl)
theorem dX0_gapsAll_17 : decode cX0_gapsAll 17 = .ok (.iinc 2 1, 3) := dk_132 2 1 (dk_at dksX0_gapsAll_0 17 rfl rfl)
theorem dX0_gapsAll_20 : decode cX0_gapsAll 20 = .ok (.goto (-16), 3) := dk_167 255 240 (dk_at dksX0_gapsAll_0 20 rfl rfl)
theorem dX0_gapsAll_23 : decode cX0_gapsAll 23 = .ok (.iload_n 1, 1) := dk_27 (dk_at dksX0_gapsAll_0 23 rfl rfl)
theorem dX0_gapsAll_24 : decode cX0_gapsAll 24 = .ok (.ireturn, 1) := dk_172 (dk_at dksX0_gapsAll_1 0 rfl rfl)
abbrev cX0_tries : ByteArray := prog_1_method_62_code
def yX0_tries : MethodName := ⟨RX0, "tries", "(III)I"⟩
def dkwX0_tries_1 : List UInt8 := [153, 0, 13, 42, 27, 28, 29, 182, 1, 172, 167, 0, 5, 16, 156, 172]
abbrev dktX0_tries_1 : List UInt8 := dkwX0_tries_1 ++ []
def dkwX0_tries_0 : List UInt8 := [42, 27, 182, 0, 79, 153, 0, 32, 28, 184, 0, 55, 153, 0, 25, 29, 133, 9, 20, 0, 12, 184, 0, 14]
abbrev dktX0_tries_0 : List UInt8 := dkwX0_tries_0 ++ dktX0_tries_1
theorem dksX0_tries_0 : cX0_tries.data.toList.drop 0 = dktX0_tries_0 := by decide +kernel
theorem dksX0_tries_1 : cX0_tries.data.toList.drop 24 = dktX0_tries_1 := dk_seg dksX0_tries_0 24 rfl rfl
theorem dX0_tries_0 : decode cX0_tries 0 = .ok (.aload_n 0, 1) := dk_42 (dk_at dksX0_tries_0 0 rfl rfl)
theorem dX0_tries_1 : decode cX0_tries 1 = .ok (.iload_n 1, 1) := dk_27 (dk_at dksX0_tries_0 1 rfl rfl)
theorem dX0_tries_2 : decode cX0_tries 2 = .ok (.invokevirtual 79, 3) := dk_182 0 79 (dk_at dksX0_tries_0 2 rfl rfl)
theorem dX0_tries_5 : decode cX0_tries 5 = .ok (.ifCond .eq 32, 3) := dk_153 0 32 (dk_at dksX0_tries_0 5 rfl rfl)
theorem dX0_tries_8 : decode cX0_tries 8 = .ok (.iload_n 2, 1) := dk_28 (dk_at dksX0_tries_0 8 rfl rfl)
theorem dX0_tries_9 : decode cX0_tries 9 = .ok (.invokestatic 55, 3) := dk_184 0 55 (dk_at dksX0_tries_0 9 rfl rfl)
theorem dX0_tries_12 : decode cX0_tries 12 = .ok (.ifCond .eq 25, 3) := dk_153 0 25 (dk_at dksX0_tries_0 12 rfl rfl)
theorem dX0_tries_15 : decode cX0_tries 15 = .ok (.iload_n 3, 1) := dk_29 (dk_at dksX0_tries_0 15 rfl rfl)
theorem dX0_tries_16 : decode cX0_tries 16 = .ok (.i2l, 1) := dk_133 (dk_at dksX0_tries_0 16 rfl rfl)
theorem dX0_tries_17 : decode cX0_tries 17 = .ok (.lconst 0, 1) := dk_9 (dk_at dksX0_tries_0 17 rfl rfl)
theorem dX0_tries_18 : decode cX0_tries 18 = .ok (.ldc2_w 12, 3) := dk_20 0 12 (dk_at dksX0_tries_0 18 rfl rfl)
theorem dX0_tries_21 : decode cX0_tries 21 = .ok (.invokestatic 14, 3) := dk_184 0 14 (dk_at dksX0_tries_0 21 rfl rfl)
theorem dX0_tries_24 : decode cX0_tries 24 = .ok (.ifCond .eq 13, 3) := dk_153 0 13 (dk_at dksX0_tries_1 0 rfl rfl)
theorem dX0_tries_27 : decode cX0_tries 27 = .ok (.aload_n 0, 1) := dk_42 (dk_at dksX0_tries_1 3 rfl rfl)
theorem dX0_tries_28 : decode cX0_tries 28 = .ok (.iload_n 1, 1) := dk_27 (dk_at dksX0_tries_1 4 rfl rfl)
theorem dX0_tries_29 : decode cX0_tries 29 = .ok (.iload_n 2, 1) := dk_28 (dk_at dksX0_tries_1 5 rfl rfl)
theorem dX0_tries_30 : decode cX0_tries 30 = .ok (.iload_n 3, 1) := dk_29 (dk_at dksX0_tries_1 6 rfl rfl)
theorem dX0_tries_31 : decode cX0_tries 31 = .ok (.invokevirtual 428, 3) := dk_182 1 172 (dk_at dksX0_tries_1 7 rfl rfl)
theorem dX0_tries_34 : decode cX0_tries 34 = .ok (.goto 5, 3) := dk_167 0 5 (dk_at dksX0_tries_1 10 rfl rfl)
theorem dX0_tries_37 : decode cX0_tries 37 = .ok (.bipush (-100), 2) := dk_16 156 (dk_at dksX0_tries_1 13 rfl rfl)
theorem dX0_tries_39 : decode cX0_tries 39 = .ok (.ireturn, 1) := dk_172 (dk_at dksX0_tries_1 15 rfl rfl)
abbrev cX0_triesOf : ByteArray := prog_1_method_61_code
def yX0_triesOf : MethodName := ⟨RX0, "triesOf", "(III)I"⟩
def dkwX0_triesOf_3 : List UInt8 := [3, 182, 1, 169, 25, 6, 191]
abbrev dktX0_triesOf_3 : List UInt8 := dkwX0_triesOf_3 ++ []
def dkwX0_triesOf_2 : List UInt8 := [180, 0, 88, 167, 0, 8, 42, 28, 182, 0, 112, 54, 5, 42, 3, 182, 1, 169, 21, 5, 172, 58, 6, 42]
abbrev dktX0_triesOf_2 : List UInt8 := dkwX0_triesOf_2 ++ dktX0_triesOf_3
def dkwX0_triesOf_1 : List UInt8 := [160, 0, 11, 42, 28, 182, 0, 68, 167, 0, 25, 29, 5, 160, 0, 15, 42, 180, 0, 47, 27, 50]
abbrev dktX0_triesOf_1 : List UInt8 := dkwX0_triesOf_1 ++ dktX0_triesOf_2
def dkwX0_triesOf_0 : List UInt8 := [42, 3, 182, 1, 167, 42, 27, 28, 182, 1, 149, 54, 4, 29, 154, 0, 8, 21, 4, 167, 0, 38, 29, 4]
abbrev dktX0_triesOf_0 : List UInt8 := dkwX0_triesOf_0 ++ dktX0_triesOf_1
theorem dksX0_triesOf_0 : cX0_triesOf.data.toList.drop 0 = dktX0_triesOf_0 := by decide +kernel
theorem dksX0_triesOf_1 : cX0_triesOf.data.toList.drop 24 = dktX0_triesOf_1 := dk_seg dksX0_triesOf_0 24 rfl rfl
theorem dksX0_triesOf_2 : cX0_triesOf.data.toList.drop 46 = dktX0_triesOf_2 := dk_seg dksX0_triesOf_1 22 rfl rfl
theorem dksX0_triesOf_3 : cX0_triesOf.data.toList.drop 70 = dktX0_triesOf_3 := dk_seg dksX0_triesOf_2 24 rfl rfl
theorem dX0_triesOf_0 : decode cX0_triesOf 0 = .ok (.aload_n 0, 1) := dk_42 (dk_at dksX0_triesOf_0 0 rfl rfl)
theorem dX0_triesOf_1 : decode cX0_triesOf 1 = .ok (.iconst 0, 1) := dk_3 (dk_at dksX0_triesOf_0 1 rfl rfl)
theorem dX0_triesOf_2 : decode cX0_triesOf 2 = .ok (.invokevirtual 423, 3) := dk_182 1 167 (dk_at dksX0_triesOf_0 2 rfl rfl)
theorem dX0_triesOf_5 : decode cX0_triesOf 5 = .ok (.aload_n 0, 1) := dk_42 (dk_at dksX0_triesOf_0 5 rfl rfl)
theorem dX0_triesOf_6 : decode cX0_triesOf 6 = .ok (.iload_n 1, 1) := dk_27 (dk_at dksX0_triesOf_0 6 rfl rfl)
theorem dX0_triesOf_7 : decode cX0_triesOf 7 = .ok (.iload_n 2, 1) := dk_28 (dk_at dksX0_triesOf_0 7 rfl rfl)
theorem dX0_triesOf_8 : decode cX0_triesOf 8 = .ok (.invokevirtual 405, 3) := dk_182 1 149 (dk_at dksX0_triesOf_0 8 rfl rfl)
theorem dX0_triesOf_11 : decode cX0_triesOf 11 = .ok (.istore 4, 2) := dk_54 4 (dk_at dksX0_triesOf_0 11 rfl rfl)
theorem dX0_triesOf_13 : decode cX0_triesOf 13 = .ok (.iload_n 3, 1) := dk_29 (dk_at dksX0_triesOf_0 13 rfl rfl)
theorem dX0_triesOf_14 : decode cX0_triesOf 14 = .ok (.ifCond .ne 8, 3) := dk_154 0 8 (dk_at dksX0_triesOf_0 14 rfl rfl)
theorem dX0_triesOf_17 : decode cX0_triesOf 17 = .ok (.iload 4, 2) := dk_21 4 (dk_at dksX0_triesOf_0 17 rfl rfl)
theorem dX0_triesOf_19 : decode cX0_triesOf 19 = .ok (.goto 38, 3) := dk_167 0 38 (dk_at dksX0_triesOf_0 19 rfl rfl)
theorem dX0_triesOf_22 : decode cX0_triesOf 22 = .ok (.iload_n 3, 1) := dk_29 (dk_at dksX0_triesOf_0 22 rfl rfl)
theorem dX0_triesOf_23 : decode cX0_triesOf 23 = .ok (.iconst 1, 1) := dk_4 (dk_at dksX0_triesOf_0 23 rfl rfl)
theorem dX0_triesOf_24 : decode cX0_triesOf 24 = .ok (.if_icmp .ne 11, 3) := dk_160 0 11 (dk_at dksX0_triesOf_1 0 rfl rfl)
theorem dX0_triesOf_27 : decode cX0_triesOf 27 = .ok (.aload_n 0, 1) := dk_42 (dk_at dksX0_triesOf_1 3 rfl rfl)
theorem dX0_triesOf_28 : decode cX0_triesOf 28 = .ok (.iload_n 2, 1) := dk_28 (dk_at dksX0_triesOf_1 4 rfl rfl)
theorem dX0_triesOf_29 : decode cX0_triesOf 29 = .ok (.invokevirtual 68, 3) := dk_182 0 68 (dk_at dksX0_triesOf_1 5 rfl rfl)
theorem dX0_triesOf_32 : decode cX0_triesOf 32 = .ok (.goto 25, 3) := dk_167 0 25 (dk_at dksX0_triesOf_1 8 rfl rfl)
theorem dX0_triesOf_35 : decode cX0_triesOf 35 = .ok (.iload_n 3, 1) := dk_29 (dk_at dksX0_triesOf_1 11 rfl rfl)
theorem dX0_triesOf_36 : decode cX0_triesOf 36 = .ok (.iconst 2, 1) := dk_5 (dk_at dksX0_triesOf_1 12 rfl rfl)
theorem dX0_triesOf_37 : decode cX0_triesOf 37 = .ok (.if_icmp .ne 15, 3) := dk_160 0 15 (dk_at dksX0_triesOf_1 13 rfl rfl)
theorem dX0_triesOf_40 : decode cX0_triesOf 40 = .ok (.aload_n 0, 1) := dk_42 (dk_at dksX0_triesOf_1 16 rfl rfl)
theorem dX0_triesOf_41 : decode cX0_triesOf 41 = .ok (.getfield 47, 3) := dk_180 0 47 (dk_at dksX0_triesOf_1 17 rfl rfl)
theorem dX0_triesOf_44 : decode cX0_triesOf 44 = .ok (.iload_n 1, 1) := dk_27 (dk_at dksX0_triesOf_1 20 rfl rfl)
theorem dX0_triesOf_45 : decode cX0_triesOf 45 = .ok (.aaload, 1) := dk_50 (dk_at dksX0_triesOf_1 21 rfl rfl)
theorem dX0_triesOf_46 : decode cX0_triesOf 46 = .ok (.getfield 88, 3) := dk_180 0 88 (dk_at dksX0_triesOf_2 0 rfl rfl)
theorem dX0_triesOf_49 : decode cX0_triesOf 49 = .ok (.goto 8, 3) := dk_167 0 8 (dk_at dksX0_triesOf_2 3 rfl rfl)
theorem dX0_triesOf_52 : decode cX0_triesOf 52 = .ok (.aload_n 0, 1) := dk_42 (dk_at dksX0_triesOf_2 6 rfl rfl)
theorem dX0_triesOf_53 : decode cX0_triesOf 53 = .ok (.iload_n 2, 1) := dk_28 (dk_at dksX0_triesOf_2 7 rfl rfl)
theorem dX0_triesOf_54 : decode cX0_triesOf 54 = .ok (.invokevirtual 112, 3) := dk_182 0 112 (dk_at dksX0_triesOf_2 8 rfl rfl)
theorem dX0_triesOf_57 : decode cX0_triesOf 57 = .ok (.istore 5, 2) := dk_54 5 (dk_at dksX0_triesOf_2 11 rfl rfl)
theorem dX0_triesOf_59 : decode cX0_triesOf 59 = .ok (.aload_n 0, 1) := dk_42 (dk_at dksX0_triesOf_2 13 rfl rfl)
theorem dX0_triesOf_60 : decode cX0_triesOf 60 = .ok (.iconst 0, 1) := dk_3 (dk_at dksX0_triesOf_2 14 rfl rfl)
theorem dX0_triesOf_61 : decode cX0_triesOf 61 = .ok (.invokevirtual 425, 3) := dk_182 1 169 (dk_at dksX0_triesOf_2 15 rfl rfl)
theorem dX0_triesOf_64 : decode cX0_triesOf 64 = .ok (.iload 5, 2) := dk_21 5 (dk_at dksX0_triesOf_2 18 rfl rfl)
theorem dX0_triesOf_66 : decode cX0_triesOf 66 = .ok (.ireturn, 1) := dk_172 (dk_at dksX0_triesOf_2 20 rfl rfl)
theorem dX0_triesOf_67 : decode cX0_triesOf 67 = .ok (.astore 6, 2) := dk_58 6 (dk_at dksX0_triesOf_2 21 rfl rfl)
theorem dX0_triesOf_69 : decode cX0_triesOf 69 = .ok (.aload_n 0, 1) := dk_42 (dk_at dksX0_triesOf_2 23 rfl rfl)
theorem dX0_triesOf_70 : decode cX0_triesOf 70 = .ok (.iconst 0, 1) := dk_3 (dk_at dksX0_triesOf_3 0 rfl rfl)
theorem dX0_triesOf_71 : decode cX0_triesOf 71 = .ok (.invokevirtual 425, 3) := dk_182 1 169 (dk_at dksX0_triesOf_3 1 rfl rfl)
theorem dX0_triesOf_74 : decode cX0_triesOf 74 = .ok (.aload 6, 2) := dk_25 6 (dk_at dksX0_triesOf_3 4 rfl rfl)
theorem dX0_triesOf_76 : decode cX0_triesOf 76 = .ok (.athrow, 1) := dk_191 (dk_at dksX0_triesOf_3 6 rfl rfl)
abbrev cX0_keeps : ByteArray := prog_1_method_59_code
def yX0_keeps : MethodName := ⟨RX0, "keeps", "(I)V"⟩
def dkwX0_keeps_3 : List UInt8 := [42, 180, 0, 82, 79, 177]
abbrev dktX0_keeps_3 : List UInt8 := dkwX0_keeps_3 ++ []
def dkwX0_keeps_2 : List UInt8 := [184, 1, 161, 42, 180, 0, 65, 3, 42, 180, 1, 68, 27, 50, 3, 7, 184, 1, 161, 42, 180, 1, 71, 27]
abbrev dktX0_keeps_2 : List UInt8 := dkwX0_keeps_2 ++ dktX0_keeps_3
def dkwX0_keeps_1 : List UInt8 := [180, 0, 88, 79, 132, 2, 1, 167, 255, 228, 42, 180, 0, 61, 3, 42, 180, 1, 65, 27, 50, 3, 7]
abbrev dktX0_keeps_1 : List UInt8 := dkwX0_keeps_1 ++ dktX0_keeps_2
def dkwX0_keeps_0 : List UInt8 := [3, 61, 28, 42, 180, 0, 18, 162, 0, 26, 42, 180, 1, 62, 27, 50, 28, 42, 180, 0, 47, 28, 50]
abbrev dktX0_keeps_0 : List UInt8 := dkwX0_keeps_0 ++ dktX0_keeps_1
theorem dksX0_keeps_0 : cX0_keeps.data.toList.drop 0 = dktX0_keeps_0 := by decide +kernel
theorem dksX0_keeps_1 : cX0_keeps.data.toList.drop 23 = dktX0_keeps_1 := dk_seg dksX0_keeps_0 23 rfl rfl
theorem dksX0_keeps_2 : cX0_keeps.data.toList.drop 46 = dktX0_keeps_2 := dk_seg dksX0_keeps_1 23 rfl rfl
theorem dksX0_keeps_3 : cX0_keeps.data.toList.drop 70 = dktX0_keeps_3 := dk_seg dksX0_keeps_2 24 rfl rfl
theorem dX0_keeps_0 : decode cX0_keeps 0 = .ok (.iconst 0, 1) := dk_3 (dk_at dksX0_keeps_0 0 rfl rfl)
theorem dX0_keeps_1 : decode cX0_keeps 1 = .ok (.istore_n 2, 1) := dk_61 (dk_at dksX0_keeps_0 1 rfl rfl)
theorem dX0_keeps_2 : decode cX0_keeps 2 = .ok (.iload_n 2, 1) := dk_28 (dk_at dksX0_keeps_0 2 rfl rfl)
theorem dX0_keeps_3 : decode cX0_keeps 3 = .ok (.aload_n 0, 1) := dk_42 (dk_at dksX0_keeps_0 3 rfl rfl)
theorem dX0_keeps_4 : decode cX0_keeps 4 = .ok (.getfield 18, 3) := dk_180 0 18 (dk_at dksX0_keeps_0 4 rfl rfl)
theorem dX0_keeps_7 : decode cX0_keeps 7 = .ok (.if_icmp .ge 26, 3) := dk_162 0 26 (dk_at dksX0_keeps_0 7 rfl rfl)
theorem dX0_keeps_10 : decode cX0_keeps 10 = .ok (.aload_n 0, 1) := dk_42 (dk_at dksX0_keeps_0 10 rfl rfl)
theorem dX0_keeps_11 : decode cX0_keeps 11 = .ok (.getfield 318, 3) := dk_180 1 62 (dk_at dksX0_keeps_0 11 rfl rfl)
theorem dX0_keeps_14 : decode cX0_keeps 14 = .ok (.iload_n 1, 1) := dk_27 (dk_at dksX0_keeps_0 14 rfl rfl)
theorem dX0_keeps_15 : decode cX0_keeps 15 = .ok (.aaload, 1) := dk_50 (dk_at dksX0_keeps_0 15 rfl rfl)
theorem dX0_keeps_16 : decode cX0_keeps 16 = .ok (.iload_n 2, 1) := dk_28 (dk_at dksX0_keeps_0 16 rfl rfl)
theorem dX0_keeps_17 : decode cX0_keeps 17 = .ok (.aload_n 0, 1) := dk_42 (dk_at dksX0_keeps_0 17 rfl rfl)
theorem dX0_keeps_18 : decode cX0_keeps 18 = .ok (.getfield 47, 3) := dk_180 0 47 (dk_at dksX0_keeps_0 18 rfl rfl)
theorem dX0_keeps_21 : decode cX0_keeps 21 = .ok (.iload_n 2, 1) := dk_28 (dk_at dksX0_keeps_0 21 rfl rfl)
theorem dX0_keeps_22 : decode cX0_keeps 22 = .ok (.aaload, 1) := dk_50 (dk_at dksX0_keeps_0 22 rfl rfl)
theorem dX0_keeps_23 : decode cX0_keeps 23 = .ok (.getfield 88, 3) := dk_180 0 88 (dk_at dksX0_keeps_1 0 rfl rfl)
theorem dX0_keeps_26 : decode cX0_keeps 26 = .ok (.iastore, 1) := dk_79 (dk_at dksX0_keeps_1 3 rfl rfl)
theorem dX0_keeps_27 : decode cX0_keeps 27 = .ok (.iinc 2 1, 3) := dk_132 2 1 (dk_at dksX0_keeps_1 4 rfl rfl)
theorem dX0_keeps_30 : decode cX0_keeps 30 = .ok (.goto (-28), 3) := dk_167 255 228 (dk_at dksX0_keeps_1 7 rfl rfl)
theorem dX0_keeps_33 : decode cX0_keeps 33 = .ok (.aload_n 0, 1) := dk_42 (dk_at dksX0_keeps_1 10 rfl rfl)
theorem dX0_keeps_34 : decode cX0_keeps 34 = .ok (.getfield 61, 3) := dk_180 0 61 (dk_at dksX0_keeps_1 11 rfl rfl)
theorem dX0_keeps_37 : decode cX0_keeps 37 = .ok (.iconst 0, 1) := dk_3 (dk_at dksX0_keeps_1 14 rfl rfl)
theorem dX0_keeps_38 : decode cX0_keeps 38 = .ok (.aload_n 0, 1) := dk_42 (dk_at dksX0_keeps_1 15 rfl rfl)
theorem dX0_keeps_39 : decode cX0_keeps 39 = .ok (.getfield 321, 3) := dk_180 1 65 (dk_at dksX0_keeps_1 16 rfl rfl)
theorem dX0_keeps_42 : decode cX0_keeps 42 = .ok (.iload_n 1, 1) := dk_27 (dk_at dksX0_keeps_1 19 rfl rfl)
theorem dX0_keeps_43 : decode cX0_keeps 43 = .ok (.aaload, 1) := dk_50 (dk_at dksX0_keeps_1 20 rfl rfl)
theorem dX0_keeps_44 : decode cX0_keeps 44 = .ok (.iconst 0, 1) := dk_3 (dk_at dksX0_keeps_1 21 rfl rfl)
theorem dX0_keeps_45 : decode cX0_keeps 45 = .ok (.iconst 4, 1) := dk_7 (dk_at dksX0_keeps_1 22 rfl rfl)
theorem dX0_keeps_46 : decode cX0_keeps 46 = .ok (.invokestatic 417, 3) := dk_184 1 161 (dk_at dksX0_keeps_2 0 rfl rfl)
theorem dX0_keeps_49 : decode cX0_keeps 49 = .ok (.aload_n 0, 1) := dk_42 (dk_at dksX0_keeps_2 3 rfl rfl)
theorem dX0_keeps_50 : decode cX0_keeps 50 = .ok (.getfield 65, 3) := dk_180 0 65 (dk_at dksX0_keeps_2 4 rfl rfl)
theorem dX0_keeps_53 : decode cX0_keeps 53 = .ok (.iconst 0, 1) := dk_3 (dk_at dksX0_keeps_2 7 rfl rfl)
theorem dX0_keeps_54 : decode cX0_keeps 54 = .ok (.aload_n 0, 1) := dk_42 (dk_at dksX0_keeps_2 8 rfl rfl)
theorem dX0_keeps_55 : decode cX0_keeps 55 = .ok (.getfield 324, 3) := dk_180 1 68 (dk_at dksX0_keeps_2 9 rfl rfl)
theorem dX0_keeps_58 : decode cX0_keeps 58 = .ok (.iload_n 1, 1) := dk_27 (dk_at dksX0_keeps_2 12 rfl rfl)
theorem dX0_keeps_59 : decode cX0_keeps 59 = .ok (.aaload, 1) := dk_50 (dk_at dksX0_keeps_2 13 rfl rfl)
theorem dX0_keeps_60 : decode cX0_keeps 60 = .ok (.iconst 0, 1) := dk_3 (dk_at dksX0_keeps_2 14 rfl rfl)
theorem dX0_keeps_61 : decode cX0_keeps 61 = .ok (.iconst 4, 1) := dk_7 (dk_at dksX0_keeps_2 15 rfl rfl)
theorem dX0_keeps_62 : decode cX0_keeps 62 = .ok (.invokestatic 417, 3) := dk_184 1 161 (dk_at dksX0_keeps_2 16 rfl rfl)
theorem dX0_keeps_65 : decode cX0_keeps 65 = .ok (.aload_n 0, 1) := dk_42 (dk_at dksX0_keeps_2 19 rfl rfl)
theorem dX0_keeps_66 : decode cX0_keeps 66 = .ok (.getfield 327, 3) := dk_180 1 71 (dk_at dksX0_keeps_2 20 rfl rfl)
theorem dX0_keeps_69 : decode cX0_keeps 69 = .ok (.iload_n 1, 1) := dk_27 (dk_at dksX0_keeps_2 23 rfl rfl)
theorem dX0_keeps_70 : decode cX0_keeps 70 = .ok (.aload_n 0, 1) := dk_42 (dk_at dksX0_keeps_3 0 rfl rfl)
theorem dX0_keeps_71 : decode cX0_keeps 71 = .ok (.getfield 82, 3) := dk_180 0 82 (dk_at dksX0_keeps_3 1 rfl rfl)
theorem dX0_keeps_74 : decode cX0_keeps 74 = .ok (.iastore, 1) := dk_79 (dk_at dksX0_keeps_3 4 rfl rfl)
theorem dX0_keeps_75 : decode cX0_keeps 75 = .ok (.return_, 1) := dk_177 (dk_at dksX0_keeps_3 5 rfl rfl)
abbrev cX0_laysBack : ByteArray := prog_1_method_60_code
def yX0_laysBack : MethodName := ⟨RX0, "laysBack", "(I)V"⟩
def dkwX0_laysBack_3 : List UInt8 := [27, 46, 181, 0, 82, 177]
abbrev dktX0_laysBack_3 : List UInt8 := dkwX0_laysBack_3 ++ []
def dkwX0_laysBack_2 : List UInt8 := [184, 1, 161, 42, 180, 1, 68, 27, 50, 3, 42, 180, 0, 65, 3, 7, 184, 1, 161, 42, 42, 180, 1, 71]
abbrev dktX0_laysBack_2 : List UInt8 := dkwX0_laysBack_2 ++ dktX0_laysBack_3
def dkwX0_laysBack_1 : List UInt8 := [181, 0, 88, 132, 2, 1, 167, 255, 228, 42, 180, 1, 65, 27, 50, 3, 42, 180, 0, 61, 3, 7]
abbrev dktX0_laysBack_1 : List UInt8 := dkwX0_laysBack_1 ++ dktX0_laysBack_2
def dkwX0_laysBack_0 : List UInt8 := [3, 61, 28, 42, 180, 0, 18, 162, 0, 26, 42, 180, 0, 47, 28, 50, 42, 180, 1, 62, 27, 50, 28, 46]
abbrev dktX0_laysBack_0 : List UInt8 := dkwX0_laysBack_0 ++ dktX0_laysBack_1
theorem dksX0_laysBack_0 : cX0_laysBack.data.toList.drop 0 = dktX0_laysBack_0 := by decide +kernel
theorem dksX0_laysBack_1 : cX0_laysBack.data.toList.drop 24 = dktX0_laysBack_1 := dk_seg dksX0_laysBack_0 24 rfl rfl
theorem dksX0_laysBack_2 : cX0_laysBack.data.toList.drop 46 = dktX0_laysBack_2 := dk_seg dksX0_laysBack_1 22 rfl rfl
theorem dksX0_laysBack_3 : cX0_laysBack.data.toList.drop 70 = dktX0_laysBack_3 := dk_seg dksX0_laysBack_2 24 rfl rfl
theorem dX0_laysBack_0 : decode cX0_laysBack 0 = .ok (.iconst 0, 1) := dk_3 (dk_at dksX0_laysBack_0 0 rfl rfl)
theorem dX0_laysBack_1 : decode cX0_laysBack 1 = .ok (.istore_n 2, 1) := dk_61 (dk_at dksX0_laysBack_0 1 rfl rfl)
theorem dX0_laysBack_2 : decode cX0_laysBack 2 = .ok (.iload_n 2, 1) := dk_28 (dk_at dksX0_laysBack_0 2 rfl rfl)
theorem dX0_laysBack_3 : decode cX0_laysBack 3 = .ok (.aload_n 0, 1) := dk_42 (dk_at dksX0_laysBack_0 3 rfl rfl)
theorem dX0_laysBack_4 : decode cX0_laysBack 4 = .ok (.getfield 18, 3) := dk_180 0 18 (dk_at dksX0_laysBack_0 4 rfl rfl)
theorem dX0_laysBack_7 : decode cX0_laysBack 7 = .ok (.if_icmp .ge 26, 3) := dk_162 0 26 (dk_at dksX0_laysBack_0 7 rfl rfl)
theorem dX0_laysBack_10 : decode cX0_laysBack 10 = .ok (.aload_n 0, 1) := dk_42 (dk_at dksX0_laysBack_0 10 rfl rfl)
theorem dX0_laysBack_11 : decode cX0_laysBack 11 = .ok (.getfield 47, 3) := dk_180 0 47 (dk_at dksX0_laysBack_0 11 rfl rfl)
theorem dX0_laysBack_14 : decode cX0_laysBack 14 = .ok (.iload_n 2, 1) := dk_28 (dk_at dksX0_laysBack_0 14 rfl rfl)
theorem dX0_laysBack_15 : decode cX0_laysBack 15 = .ok (.aaload, 1) := dk_50 (dk_at dksX0_laysBack_0 15 rfl rfl)
theorem dX0_laysBack_16 : decode cX0_laysBack 16 = .ok (.aload_n 0, 1) := dk_42 (dk_at dksX0_laysBack_0 16 rfl rfl)
theorem dX0_laysBack_17 : decode cX0_laysBack 17 = .ok (.getfield 318, 3) := dk_180 1 62 (dk_at dksX0_laysBack_0 17 rfl rfl)
theorem dX0_laysBack_20 : decode cX0_laysBack 20 = .ok (.iload_n 1, 1) := dk_27 (dk_at dksX0_laysBack_0 20 rfl rfl)
theorem dX0_laysBack_21 : decode cX0_laysBack 21 = .ok (.aaload, 1) := dk_50 (dk_at dksX0_laysBack_0 21 rfl rfl)
theorem dX0_laysBack_22 : decode cX0_laysBack 22 = .ok (.iload_n 2, 1) := dk_28 (dk_at dksX0_laysBack_0 22 rfl rfl)
theorem dX0_laysBack_23 : decode cX0_laysBack 23 = .ok (.iaload, 1) := dk_46 (dk_at dksX0_laysBack_0 23 rfl rfl)
theorem dX0_laysBack_24 : decode cX0_laysBack 24 = .ok (.putfield 88, 3) := dk_181 0 88 (dk_at dksX0_laysBack_1 0 rfl rfl)
theorem dX0_laysBack_27 : decode cX0_laysBack 27 = .ok (.iinc 2 1, 3) := dk_132 2 1 (dk_at dksX0_laysBack_1 3 rfl rfl)
theorem dX0_laysBack_30 : decode cX0_laysBack 30 = .ok (.goto (-28), 3) := dk_167 255 228 (dk_at dksX0_laysBack_1 6 rfl rfl)
theorem dX0_laysBack_33 : decode cX0_laysBack 33 = .ok (.aload_n 0, 1) := dk_42 (dk_at dksX0_laysBack_1 9 rfl rfl)
theorem dX0_laysBack_34 : decode cX0_laysBack 34 = .ok (.getfield 321, 3) := dk_180 1 65 (dk_at dksX0_laysBack_1 10 rfl rfl)
theorem dX0_laysBack_37 : decode cX0_laysBack 37 = .ok (.iload_n 1, 1) := dk_27 (dk_at dksX0_laysBack_1 13 rfl rfl)
theorem dX0_laysBack_38 : decode cX0_laysBack 38 = .ok (.aaload, 1) := dk_50 (dk_at dksX0_laysBack_1 14 rfl rfl)
theorem dX0_laysBack_39 : decode cX0_laysBack 39 = .ok (.iconst 0, 1) := dk_3 (dk_at dksX0_laysBack_1 15 rfl rfl)
theorem dX0_laysBack_40 : decode cX0_laysBack 40 = .ok (.aload_n 0, 1) := dk_42 (dk_at dksX0_laysBack_1 16 rfl rfl)
theorem dX0_laysBack_41 : decode cX0_laysBack 41 = .ok (.getfield 61, 3) := dk_180 0 61 (dk_at dksX0_laysBack_1 17 rfl rfl)
theorem dX0_laysBack_44 : decode cX0_laysBack 44 = .ok (.iconst 0, 1) := dk_3 (dk_at dksX0_laysBack_1 20 rfl rfl)
theorem dX0_laysBack_45 : decode cX0_laysBack 45 = .ok (.iconst 4, 1) := dk_7 (dk_at dksX0_laysBack_1 21 rfl rfl)
theorem dX0_laysBack_46 : decode cX0_laysBack 46 = .ok (.invokestatic 417, 3) := dk_184 1 161 (dk_at dksX0_laysBack_2 0 rfl rfl)
theorem dX0_laysBack_49 : decode cX0_laysBack 49 = .ok (.aload_n 0, 1) := dk_42 (dk_at dksX0_laysBack_2 3 rfl rfl)
theorem dX0_laysBack_50 : decode cX0_laysBack 50 = .ok (.getfield 324, 3) := dk_180 1 68 (dk_at dksX0_laysBack_2 4 rfl rfl)
theorem dX0_laysBack_53 : decode cX0_laysBack 53 = .ok (.iload_n 1, 1) := dk_27 (dk_at dksX0_laysBack_2 7 rfl rfl)
theorem dX0_laysBack_54 : decode cX0_laysBack 54 = .ok (.aaload, 1) := dk_50 (dk_at dksX0_laysBack_2 8 rfl rfl)
theorem dX0_laysBack_55 : decode cX0_laysBack 55 = .ok (.iconst 0, 1) := dk_3 (dk_at dksX0_laysBack_2 9 rfl rfl)
theorem dX0_laysBack_56 : decode cX0_laysBack 56 = .ok (.aload_n 0, 1) := dk_42 (dk_at dksX0_laysBack_2 10 rfl rfl)
theorem dX0_laysBack_57 : decode cX0_laysBack 57 = .ok (.getfield 65, 3) := dk_180 0 65 (dk_at dksX0_laysBack_2 11 rfl rfl)
theorem dX0_laysBack_60 : decode cX0_laysBack 60 = .ok (.iconst 0, 1) := dk_3 (dk_at dksX0_laysBack_2 14 rfl rfl)
theorem dX0_laysBack_61 : decode cX0_laysBack 61 = .ok (.iconst 4, 1) := dk_7 (dk_at dksX0_laysBack_2 15 rfl rfl)
theorem dX0_laysBack_62 : decode cX0_laysBack 62 = .ok (.invokestatic 417, 3) := dk_184 1 161 (dk_at dksX0_laysBack_2 16 rfl rfl)
theorem dX0_laysBack_65 : decode cX0_laysBack 65 = .ok (.aload_n 0, 1) := dk_42 (dk_at dksX0_laysBack_2 19 rfl rfl)
theorem dX0_laysBack_66 : decode cX0_laysBack 66 = .ok (.aload_n 0, 1) := dk_42 (dk_at dksX0_laysBack_2 20 rfl rfl)
theorem dX0_laysBack_67 : decode cX0_laysBack 67 = .ok (.getfield 327, 3) := dk_180 1 71 (dk_at dksX0_laysBack_2 21 rfl rfl)
theorem dX0_laysBack_70 : decode cX0_laysBack 70 = .ok (.iload_n 1, 1) := dk_27 (dk_at dksX0_laysBack_3 0 rfl rfl)
theorem dX0_laysBack_71 : decode cX0_laysBack 71 = .ok (.iaload, 1) := dk_46 (dk_at dksX0_laysBack_3 1 rfl rfl)
theorem dX0_laysBack_72 : decode cX0_laysBack 72 = .ok (.putfield 82, 3) := dk_181 0 82 (dk_at dksX0_laysBack_3 2 rfl rfl)
theorem dX0_laysBack_75 : decode cX0_laysBack 75 = .ok (.return_, 1) := dk_177 (dk_at dksX0_laysBack_3 5 rfl rfl)
abbrev cX0_nights : ByteArray := prog_1_method_64_code
def yX0_nights : MethodName := ⟨RX0, "nights", "(IIII)I"⟩
def dkwX0_nights_4 : List UInt8 := [42, 3, 182, 1, 169, 21, 5, 172, 58, 6, 42, 3, 182, 1, 169, 25, 6, 191]
abbrev dktX0_nights_4 : List UInt8 := dkwX0_nights_4 ++ []
def dkwX0_nights_3 : List UInt8 := [21, 4, 154, 0, 15, 42, 180, 0, 47, 27, 50, 180, 0, 88, 167, 0, 8, 42, 28, 182, 0, 68, 54, 5]
abbrev dktX0_nights_3 : List UInt8 := dkwX0_nights_3 ++ dktX0_nights_4
def dkwX0_nights_2 : List UInt8 := [54, 5, 21, 5, 29, 162, 0, 18, 42, 28, 182, 1, 177, 42, 182, 1, 155, 132, 5, 1, 167, 255, 238]
abbrev dktX0_nights_2 : List UInt8 := dkwX0_nights_2 ++ dktX0_nights_3
def dkwX0_nights_1 : List UInt8 := [153, 0, 14, 21, 4, 133, 9, 10, 184, 0, 14, 154, 0, 6, 16, 254, 172, 42, 3, 182, 1, 167, 3]
abbrev dktX0_nights_1 : List UInt8 := dkwX0_nights_1 ++ dktX0_nights_2
def dkwX0_nights_0 : List UInt8 := [42, 27, 182, 0, 79, 153, 0, 33, 28, 184, 0, 55, 153, 0, 26, 29, 133, 9, 20, 1, 175, 184, 0, 14]
abbrev dktX0_nights_0 : List UInt8 := dkwX0_nights_0 ++ dktX0_nights_1
theorem dksX0_nights_0 : cX0_nights.data.toList.drop 0 = dktX0_nights_0 := by decide +kernel
theorem dksX0_nights_1 : cX0_nights.data.toList.drop 24 = dktX0_nights_1 := dk_seg dksX0_nights_0 24 rfl rfl
theorem dksX0_nights_2 : cX0_nights.data.toList.drop 47 = dktX0_nights_2 := dk_seg dksX0_nights_1 23 rfl rfl
theorem dksX0_nights_3 : cX0_nights.data.toList.drop 70 = dktX0_nights_3 := dk_seg dksX0_nights_2 23 rfl rfl
theorem dksX0_nights_4 : cX0_nights.data.toList.drop 94 = dktX0_nights_4 := dk_seg dksX0_nights_3 24 rfl rfl
theorem dX0_nights_0 : decode cX0_nights 0 = .ok (.aload_n 0, 1) := dk_42 (dk_at dksX0_nights_0 0 rfl rfl)
theorem dX0_nights_1 : decode cX0_nights 1 = .ok (.iload_n 1, 1) := dk_27 (dk_at dksX0_nights_0 1 rfl rfl)
theorem dX0_nights_2 : decode cX0_nights 2 = .ok (.invokevirtual 79, 3) := dk_182 0 79 (dk_at dksX0_nights_0 2 rfl rfl)
theorem dX0_nights_5 : decode cX0_nights 5 = .ok (.ifCond .eq 33, 3) := dk_153 0 33 (dk_at dksX0_nights_0 5 rfl rfl)
theorem dX0_nights_8 : decode cX0_nights 8 = .ok (.iload_n 2, 1) := dk_28 (dk_at dksX0_nights_0 8 rfl rfl)
theorem dX0_nights_9 : decode cX0_nights 9 = .ok (.invokestatic 55, 3) := dk_184 0 55 (dk_at dksX0_nights_0 9 rfl rfl)
theorem dX0_nights_12 : decode cX0_nights 12 = .ok (.ifCond .eq 26, 3) := dk_153 0 26 (dk_at dksX0_nights_0 12 rfl rfl)
theorem dX0_nights_15 : decode cX0_nights 15 = .ok (.iload_n 3, 1) := dk_29 (dk_at dksX0_nights_0 15 rfl rfl)
theorem dX0_nights_16 : decode cX0_nights 16 = .ok (.i2l, 1) := dk_133 (dk_at dksX0_nights_0 16 rfl rfl)
theorem dX0_nights_17 : decode cX0_nights 17 = .ok (.lconst 0, 1) := dk_9 (dk_at dksX0_nights_0 17 rfl rfl)
theorem dX0_nights_18 : decode cX0_nights 18 = .ok (.ldc2_w 431, 3) := dk_20 1 175 (dk_at dksX0_nights_0 18 rfl rfl)
theorem dX0_nights_21 : decode cX0_nights 21 = .ok (.invokestatic 14, 3) := dk_184 0 14 (dk_at dksX0_nights_0 21 rfl rfl)
theorem dX0_nights_24 : decode cX0_nights 24 = .ok (.ifCond .eq 14, 3) := dk_153 0 14 (dk_at dksX0_nights_1 0 rfl rfl)
theorem dX0_nights_27 : decode cX0_nights 27 = .ok (.iload 4, 2) := dk_21 4 (dk_at dksX0_nights_1 3 rfl rfl)
theorem dX0_nights_29 : decode cX0_nights 29 = .ok (.i2l, 1) := dk_133 (dk_at dksX0_nights_1 5 rfl rfl)
theorem dX0_nights_30 : decode cX0_nights 30 = .ok (.lconst 0, 1) := dk_9 (dk_at dksX0_nights_1 6 rfl rfl)
theorem dX0_nights_31 : decode cX0_nights 31 = .ok (.lconst 1, 1) := dk_10 (dk_at dksX0_nights_1 7 rfl rfl)
theorem dX0_nights_32 : decode cX0_nights 32 = .ok (.invokestatic 14, 3) := dk_184 0 14 (dk_at dksX0_nights_1 8 rfl rfl)
theorem dX0_nights_35 : decode cX0_nights 35 = .ok (.ifCond .ne 6, 3) := dk_154 0 6 (dk_at dksX0_nights_1 11 rfl rfl)
theorem dX0_nights_38 : decode cX0_nights 38 = .ok (.bipush (-2), 2) := dk_16 254 (dk_at dksX0_nights_1 14 rfl rfl)
theorem dX0_nights_40 : decode cX0_nights 40 = .ok (.ireturn, 1) := dk_172 (dk_at dksX0_nights_1 16 rfl rfl)
theorem dX0_nights_41 : decode cX0_nights 41 = .ok (.aload_n 0, 1) := dk_42 (dk_at dksX0_nights_1 17 rfl rfl)
theorem dX0_nights_42 : decode cX0_nights 42 = .ok (.iconst 0, 1) := dk_3 (dk_at dksX0_nights_1 18 rfl rfl)
theorem dX0_nights_43 : decode cX0_nights 43 = .ok (.invokevirtual 423, 3) := dk_182 1 167 (dk_at dksX0_nights_1 19 rfl rfl)
theorem dX0_nights_46 : decode cX0_nights 46 = .ok (.iconst 0, 1) := dk_3 (dk_at dksX0_nights_1 22 rfl rfl)
theorem dX0_nights_47 : decode cX0_nights 47 = .ok (.istore 5, 2) := dk_54 5 (dk_at dksX0_nights_2 0 rfl rfl)
theorem dX0_nights_49 : decode cX0_nights 49 = .ok (.iload 5, 2) := dk_21 5 (dk_at dksX0_nights_2 2 rfl rfl)
theorem dX0_nights_51 : decode cX0_nights 51 = .ok (.iload_n 3, 1) := dk_29 (dk_at dksX0_nights_2 4 rfl rfl)
theorem dX0_nights_52 : decode cX0_nights 52 = .ok (.if_icmp .ge 18, 3) := dk_162 0 18 (dk_at dksX0_nights_2 5 rfl rfl)
theorem dX0_nights_55 : decode cX0_nights 55 = .ok (.aload_n 0, 1) := dk_42 (dk_at dksX0_nights_2 8 rfl rfl)
theorem dX0_nights_56 : decode cX0_nights 56 = .ok (.iload_n 2, 1) := dk_28 (dk_at dksX0_nights_2 9 rfl rfl)
theorem dX0_nights_57 : decode cX0_nights 57 = .ok (.invokevirtual 433, 3) := dk_182 1 177 (dk_at dksX0_nights_2 10 rfl rfl)
theorem dX0_nights_60 : decode cX0_nights 60 = .ok (.aload_n 0, 1) := dk_42 (dk_at dksX0_nights_2 13 rfl rfl)
theorem dX0_nights_61 : decode cX0_nights 61 = .ok (.invokevirtual 411, 3) := dk_182 1 155 (dk_at dksX0_nights_2 14 rfl rfl)
theorem dX0_nights_64 : decode cX0_nights 64 = .ok (.iinc 5 1, 3) := dk_132 5 1 (dk_at dksX0_nights_2 17 rfl rfl)
theorem dX0_nights_67 : decode cX0_nights 67 = .ok (.goto (-18), 3) := dk_167 255 238 (dk_at dksX0_nights_2 20 rfl rfl)
theorem dX0_nights_70 : decode cX0_nights 70 = .ok (.iload 4, 2) := dk_21 4 (dk_at dksX0_nights_3 0 rfl rfl)
theorem dX0_nights_72 : decode cX0_nights 72 = .ok (.ifCond .ne 15, 3) := dk_154 0 15 (dk_at dksX0_nights_3 2 rfl rfl)
theorem dX0_nights_75 : decode cX0_nights 75 = .ok (.aload_n 0, 1) := dk_42 (dk_at dksX0_nights_3 5 rfl rfl)
theorem dX0_nights_76 : decode cX0_nights 76 = .ok (.getfield 47, 3) := dk_180 0 47 (dk_at dksX0_nights_3 6 rfl rfl)
theorem dX0_nights_79 : decode cX0_nights 79 = .ok (.iload_n 1, 1) := dk_27 (dk_at dksX0_nights_3 9 rfl rfl)
theorem dX0_nights_80 : decode cX0_nights 80 = .ok (.aaload, 1) := dk_50 (dk_at dksX0_nights_3 10 rfl rfl)
theorem dX0_nights_81 : decode cX0_nights 81 = .ok (.getfield 88, 3) := dk_180 0 88 (dk_at dksX0_nights_3 11 rfl rfl)
theorem dX0_nights_84 : decode cX0_nights 84 = .ok (.goto 8, 3) := dk_167 0 8 (dk_at dksX0_nights_3 14 rfl rfl)
theorem dX0_nights_87 : decode cX0_nights 87 = .ok (.aload_n 0, 1) := dk_42 (dk_at dksX0_nights_3 17 rfl rfl)
theorem dX0_nights_88 : decode cX0_nights 88 = .ok (.iload_n 2, 1) := dk_28 (dk_at dksX0_nights_3 18 rfl rfl)
theorem dX0_nights_89 : decode cX0_nights 89 = .ok (.invokevirtual 68, 3) := dk_182 0 68 (dk_at dksX0_nights_3 19 rfl rfl)
theorem dX0_nights_92 : decode cX0_nights 92 = .ok (.istore 5, 2) := dk_54 5 (dk_at dksX0_nights_3 22 rfl rfl)
theorem dX0_nights_94 : decode cX0_nights 94 = .ok (.aload_n 0, 1) := dk_42 (dk_at dksX0_nights_4 0 rfl rfl)
theorem dX0_nights_95 : decode cX0_nights 95 = .ok (.iconst 0, 1) := dk_3 (dk_at dksX0_nights_4 1 rfl rfl)
theorem dX0_nights_96 : decode cX0_nights 96 = .ok (.invokevirtual 425, 3) := dk_182 1 169 (dk_at dksX0_nights_4 2 rfl rfl)
theorem dX0_nights_99 : decode cX0_nights 99 = .ok (.iload 5, 2) := dk_21 5 (dk_at dksX0_nights_4 5 rfl rfl)
theorem dX0_nights_101 : decode cX0_nights 101 = .ok (.ireturn, 1) := dk_172 (dk_at dksX0_nights_4 7 rfl rfl)
theorem dX0_nights_102 : decode cX0_nights 102 = .ok (.astore 6, 2) := dk_58 6 (dk_at dksX0_nights_4 8 rfl rfl)
theorem dX0_nights_104 : decode cX0_nights 104 = .ok (.aload_n 0, 1) := dk_42 (dk_at dksX0_nights_4 10 rfl rfl)
theorem dX0_nights_105 : decode cX0_nights 105 = .ok (.iconst 0, 1) := dk_3 (dk_at dksX0_nights_4 11 rfl rfl)
theorem dX0_nights_106 : decode cX0_nights 106 = .ok (.invokevirtual 425, 3) := dk_182 1 169 (dk_at dksX0_nights_4 12 rfl rfl)
theorem dX0_nights_109 : decode cX0_nights 109 = .ok (.aload 6, 2) := dk_25 6 (dk_at dksX0_nights_4 15 rfl rfl)
theorem dX0_nights_111 : decode cX0_nights 111 = .ok (.athrow, 1) := dk_191 (dk_at dksX0_nights_4 17 rfl rfl)
abbrev cX0_allGlean : ByteArray := prog_1_method_63_code
def yX0_allGlean : MethodName := ⟨RX0, "allGlean", "(I)V"⟩
def dkwX0_allGlean_0 : List UInt8 := [3, 61, 28, 42, 180, 0, 18, 162, 0, 16, 42, 28, 27, 182, 1, 149, 87, 132, 2, 1, 167, 255, 238, 177]
abbrev dktX0_allGlean_0 : List UInt8 := dkwX0_allGlean_0 ++ []
theorem dksX0_allGlean_0 : cX0_allGlean.data.toList.drop 0 = dktX0_allGlean_0 := by decide +kernel
theorem dX0_allGlean_0 : decode cX0_allGlean 0 = .ok (.iconst 0, 1) := dk_3 (dk_at dksX0_allGlean_0 0 rfl rfl)
theorem dX0_allGlean_1 : decode cX0_allGlean 1 = .ok (.istore_n 2, 1) := dk_61 (dk_at dksX0_allGlean_0 1 rfl rfl)
theorem dX0_allGlean_2 : decode cX0_allGlean 2 = .ok (.iload_n 2, 1) := dk_28 (dk_at dksX0_allGlean_0 2 rfl rfl)
theorem dX0_allGlean_3 : decode cX0_allGlean 3 = .ok (.aload_n 0, 1) := dk_42 (dk_at dksX0_allGlean_0 3 rfl rfl)
theorem dX0_allGlean_4 : decode cX0_allGlean 4 = .ok (.getfield 18, 3) := dk_180 0 18 (dk_at dksX0_allGlean_0 4 rfl rfl)
theorem dX0_allGlean_7 : decode cX0_allGlean 7 = .ok (.if_icmp .ge 16, 3) := dk_162 0 16 (dk_at dksX0_allGlean_0 7 rfl rfl)
theorem dX0_allGlean_10 : decode cX0_allGlean 10 = .ok (.aload_n 0, 1) := dk_42 (dk_at dksX0_allGlean_0 10 rfl rfl)
theorem dX0_allGlean_11 : decode cX0_allGlean 11 = .ok (.iload_n 2, 1) := dk_28 (dk_at dksX0_allGlean_0 11 rfl rfl)
theorem dX0_allGlean_12 : decode cX0_allGlean 12 = .ok (.iload_n 1, 1) := dk_27 (dk_at dksX0_allGlean_0 12 rfl rfl)
theorem dX0_allGlean_13 : decode cX0_allGlean 13 = .ok (.invokevirtual 405, 3) := dk_182 1 149 (dk_at dksX0_allGlean_0 13 rfl rfl)
theorem dX0_allGlean_16 : decode cX0_allGlean 16 = .ok (.pop, 1) := dk_87 (dk_at dksX0_allGlean_0 16 rfl rfl)
theorem dX0_allGlean_17 : decode cX0_allGlean 17 = .ok (.iinc 2 1, 3) := dk_132 2 1 (dk_at dksX0_allGlean_0 17 rfl rfl)
theorem dX0_allGlean_20 : decode cX0_allGlean 20 = .ok (.goto (-18), 3) := dk_167 255 238 (dk_at dksX0_allGlean_0 20 rfl rfl)
theorem dX0_allGlean_23 : decode cX0_allGlean 23 = .ok (.return_, 1) := dk_177 (dk_at dksX0_allGlean_0 23 rfl rfl)
abbrev cX0_first : ByteArray := prog_1_method_67_code
def yX0_first : MethodName := ⟨RX0, "first", "(III)I"⟩
def dkwX0_first_2 : List UInt8 := [42, 180, 1, 184, 172]
abbrev dktX0_first_2 : List UInt8 := dkwX0_first_2 ++ []
def dkwX0_first_1 : List UInt8 := [154, 0, 7, 17, 252, 24, 172, 42, 27, 28, 182, 1, 194, 29, 154, 0, 10, 42, 180, 1, 187, 167, 0, 7]
abbrev dktX0_first_1 : List UInt8 := dkwX0_first_1 ++ dktX0_first_2
def dkwX0_first_0 : List UInt8 := [42, 27, 182, 0, 79, 153, 0, 20, 28, 184, 0, 55, 153, 0, 13, 29, 133, 9, 10, 184, 0, 14]
abbrev dktX0_first_0 : List UInt8 := dkwX0_first_0 ++ dktX0_first_1
theorem dksX0_first_0 : cX0_first.data.toList.drop 0 = dktX0_first_0 := by decide +kernel
theorem dksX0_first_1 : cX0_first.data.toList.drop 22 = dktX0_first_1 := dk_seg dksX0_first_0 22 rfl rfl
theorem dksX0_first_2 : cX0_first.data.toList.drop 46 = dktX0_first_2 := dk_seg dksX0_first_1 24 rfl rfl
theorem dX0_first_0 : decode cX0_first 0 = .ok (.aload_n 0, 1) := dk_42 (dk_at dksX0_first_0 0 rfl rfl)
theorem dX0_first_1 : decode cX0_first 1 = .ok (.iload_n 1, 1) := dk_27 (dk_at dksX0_first_0 1 rfl rfl)
theorem dX0_first_2 : decode cX0_first 2 = .ok (.invokevirtual 79, 3) := dk_182 0 79 (dk_at dksX0_first_0 2 rfl rfl)
theorem dX0_first_5 : decode cX0_first 5 = .ok (.ifCond .eq 20, 3) := dk_153 0 20 (dk_at dksX0_first_0 5 rfl rfl)
theorem dX0_first_8 : decode cX0_first 8 = .ok (.iload_n 2, 1) := dk_28 (dk_at dksX0_first_0 8 rfl rfl)
theorem dX0_first_9 : decode cX0_first 9 = .ok (.invokestatic 55, 3) := dk_184 0 55 (dk_at dksX0_first_0 9 rfl rfl)
theorem dX0_first_12 : decode cX0_first 12 = .ok (.ifCond .eq 13, 3) := dk_153 0 13 (dk_at dksX0_first_0 12 rfl rfl)
theorem dX0_first_15 : decode cX0_first 15 = .ok (.iload_n 3, 1) := dk_29 (dk_at dksX0_first_0 15 rfl rfl)
theorem dX0_first_16 : decode cX0_first 16 = .ok (.i2l, 1) := dk_133 (dk_at dksX0_first_0 16 rfl rfl)
theorem dX0_first_17 : decode cX0_first 17 = .ok (.lconst 0, 1) := dk_9 (dk_at dksX0_first_0 17 rfl rfl)
theorem dX0_first_18 : decode cX0_first 18 = .ok (.lconst 1, 1) := dk_10 (dk_at dksX0_first_0 18 rfl rfl)
theorem dX0_first_19 : decode cX0_first 19 = .ok (.invokestatic 14, 3) := dk_184 0 14 (dk_at dksX0_first_0 19 rfl rfl)
theorem dX0_first_22 : decode cX0_first 22 = .ok (.ifCond .ne 7, 3) := dk_154 0 7 (dk_at dksX0_first_1 0 rfl rfl)
theorem dX0_first_25 : decode cX0_first 25 = .ok (.sipush (-1000), 3) := dk_17 252 24 (dk_at dksX0_first_1 3 rfl rfl)
theorem dX0_first_28 : decode cX0_first 28 = .ok (.ireturn, 1) := dk_172 (dk_at dksX0_first_1 6 rfl rfl)
theorem dX0_first_29 : decode cX0_first 29 = .ok (.aload_n 0, 1) := dk_42 (dk_at dksX0_first_1 7 rfl rfl)
theorem dX0_first_30 : decode cX0_first 30 = .ok (.iload_n 1, 1) := dk_27 (dk_at dksX0_first_1 8 rfl rfl)
theorem dX0_first_31 : decode cX0_first 31 = .ok (.iload_n 2, 1) := dk_28 (dk_at dksX0_first_1 9 rfl rfl)
theorem dX0_first_32 : decode cX0_first 32 = .ok (.invokevirtual 450, 3) := dk_182 1 194 (dk_at dksX0_first_1 10 rfl rfl)
theorem dX0_first_35 : decode cX0_first 35 = .ok (.iload_n 3, 1) := dk_29 (dk_at dksX0_first_1 13 rfl rfl)
theorem dX0_first_36 : decode cX0_first 36 = .ok (.ifCond .ne 10, 3) := dk_154 0 10 (dk_at dksX0_first_1 14 rfl rfl)
theorem dX0_first_39 : decode cX0_first 39 = .ok (.aload_n 0, 1) := dk_42 (dk_at dksX0_first_1 17 rfl rfl)
theorem dX0_first_40 : decode cX0_first 40 = .ok (.getfield 443, 3) := dk_180 1 187 (dk_at dksX0_first_1 18 rfl rfl)
theorem dX0_first_43 : decode cX0_first 43 = .ok (.goto 7, 3) := dk_167 0 7 (dk_at dksX0_first_1 21 rfl rfl)
theorem dX0_first_46 : decode cX0_first 46 = .ok (.aload_n 0, 1) := dk_42 (dk_at dksX0_first_2 0 rfl rfl)
theorem dX0_first_47 : decode cX0_first 47 = .ok (.getfield 440, 3) := dk_180 1 184 (dk_at dksX0_first_2 1 rfl rfl)
theorem dX0_first_50 : decode cX0_first 50 = .ok (.ireturn, 1) := dk_172 (dk_at dksX0_first_2 4 rfl rfl)
abbrev cX0_goesThrough : ByteArray := prog_1_method_66_code
def yX0_goesThrough : MethodName := ⟨RX0, "goesThrough", "(II)V"⟩
def dkwX0_goesThrough_0 : List UInt8 := [42, 3, 181, 1, 180, 42, 27, 28, 4, 42, 180, 0, 18, 120, 4, 100, 3, 3, 3, 182, 1, 190, 177]
abbrev dktX0_goesThrough_0 : List UInt8 := dkwX0_goesThrough_0 ++ []
theorem dksX0_goesThrough_0 : cX0_goesThrough.data.toList.drop 0 = dktX0_goesThrough_0 := by decide +kernel
theorem dX0_goesThrough_0 : decode cX0_goesThrough 0 = .ok (.aload_n 0, 1) := dk_42 (dk_at dksX0_goesThrough_0 0 rfl rfl)
theorem dX0_goesThrough_1 : decode cX0_goesThrough 1 = .ok (.iconst 0, 1) := dk_3 (dk_at dksX0_goesThrough_0 1 rfl rfl)
theorem dX0_goesThrough_2 : decode cX0_goesThrough 2 = .ok (.putfield 436, 3) := dk_181 1 180 (dk_at dksX0_goesThrough_0 2 rfl rfl)
theorem dX0_goesThrough_5 : decode cX0_goesThrough 5 = .ok (.aload_n 0, 1) := dk_42 (dk_at dksX0_goesThrough_0 5 rfl rfl)
theorem dX0_goesThrough_6 : decode cX0_goesThrough 6 = .ok (.iload_n 1, 1) := dk_27 (dk_at dksX0_goesThrough_0 6 rfl rfl)
theorem dX0_goesThrough_7 : decode cX0_goesThrough 7 = .ok (.iload_n 2, 1) := dk_28 (dk_at dksX0_goesThrough_0 7 rfl rfl)
theorem dX0_goesThrough_8 : decode cX0_goesThrough 8 = .ok (.iconst 1, 1) := dk_4 (dk_at dksX0_goesThrough_0 8 rfl rfl)
theorem dX0_goesThrough_9 : decode cX0_goesThrough 9 = .ok (.aload_n 0, 1) := dk_42 (dk_at dksX0_goesThrough_0 9 rfl rfl)
theorem dX0_goesThrough_10 : decode cX0_goesThrough 10 = .ok (.getfield 18, 3) := dk_180 0 18 (dk_at dksX0_goesThrough_0 10 rfl rfl)
theorem dX0_goesThrough_13 : decode cX0_goesThrough 13 = .ok (.ishl, 1) := dk_120 (dk_at dksX0_goesThrough_0 13 rfl rfl)
theorem dX0_goesThrough_14 : decode cX0_goesThrough 14 = .ok (.iconst 1, 1) := dk_4 (dk_at dksX0_goesThrough_0 14 rfl rfl)
theorem dX0_goesThrough_15 : decode cX0_goesThrough 15 = .ok (.isub, 1) := dk_100 (dk_at dksX0_goesThrough_0 15 rfl rfl)
theorem dX0_goesThrough_16 : decode cX0_goesThrough 16 = .ok (.iconst 0, 1) := dk_3 (dk_at dksX0_goesThrough_0 16 rfl rfl)
theorem dX0_goesThrough_17 : decode cX0_goesThrough 17 = .ok (.iconst 0, 1) := dk_3 (dk_at dksX0_goesThrough_0 17 rfl rfl)
theorem dX0_goesThrough_18 : decode cX0_goesThrough 18 = .ok (.iconst 0, 1) := dk_3 (dk_at dksX0_goesThrough_0 18 rfl rfl)
theorem dX0_goesThrough_19 : decode cX0_goesThrough 19 = .ok (.invokevirtual 446, 3) := dk_182 1 190 (dk_at dksX0_goesThrough_0 19 rfl rfl)
theorem dX0_goesThrough_22 : decode cX0_goesThrough 22 = .ok (.return_, 1) := dk_177 (dk_at dksX0_goesThrough_0 22 rfl rfl)
abbrev cX0_orders : ByteArray := prog_1_method_65_code
def yX0_orders : MethodName := ⟨RX0, "orders", "(IIIIII)V"⟩
def dkwX0_orders_7 : List UInt8 := [182, 1, 169, 132, 7, 1, 167, 255, 170, 177]
abbrev dktX0_orders_7 : List UInt8 := dkwX0_orders_7 ++ []
def dkwX0_orders_6 : List UInt8 := [96, 4, 96, 21, 7, 27, 160, 0, 8, 21, 8, 167, 0, 5, 21, 6, 182, 1, 190, 42, 21, 4]
abbrev dktX0_orders_6 : List UInt8 := dkwX0_orders_6 ++ dktX0_orders_7
def dkwX0_orders_5 : List UInt8 := [54, 8, 42, 27, 28, 29, 4, 21, 7, 120, 2, 130, 126, 21, 4, 4, 96, 16, 10, 21, 5, 104, 21, 7]
abbrev dktX0_orders_5 : List UInt8 := dkwX0_orders_5 ++ dktX0_orders_6
def dkwX0_orders_4 : List UInt8 := [21, 7, 184, 0, 128, 154, 0, 6, 167, 0, 65, 42, 21, 4, 182, 1, 167, 42, 21, 7, 28, 182, 1, 149]
abbrev dktX0_orders_4 : List UInt8 := dkwX0_orders_4 ++ dktX0_orders_5
def dkwX0_orders_3 : List UInt8 := [21, 7, 181, 1, 184, 42, 4, 181, 1, 180, 177, 3, 54, 7, 21, 7, 42, 180, 0, 18, 162, 0, 83, 29]
abbrev dktX0_orders_3 : List UInt8 := dkwX0_orders_3 ++ dktX0_orders_4
def dkwX0_orders_2 : List UInt8 := [181, 1, 187, 42, 42, 180, 1, 180, 153, 0, 15, 42, 180, 1, 184, 21, 7, 184, 0, 7, 167, 0, 5]
abbrev dktX0_orders_2 : List UInt8 := dkwX0_orders_2 ++ dktX0_orders_3
def dkwX0_orders_1 : List UInt8 := [180, 1, 180, 153, 0, 12, 21, 7, 42, 180, 1, 184, 164, 0, 8, 21, 5, 167, 0, 7, 42, 180, 1, 187]
abbrev dktX0_orders_1 : List UInt8 := dkwX0_orders_1 ++ dktX0_orders_2
def dkwX0_orders_0 : List UInt8 := [29, 154, 0, 81, 27, 2, 160, 0, 12, 42, 28, 182, 0, 68, 116, 167, 0, 5, 21, 6, 54, 7, 42, 42]
abbrev dktX0_orders_0 : List UInt8 := dkwX0_orders_0 ++ dktX0_orders_1
theorem dksX0_orders_0 : cX0_orders.data.toList.drop 0 = dktX0_orders_0 := by decide +kernel
theorem dksX0_orders_1 : cX0_orders.data.toList.drop 24 = dktX0_orders_1 := dk_seg dksX0_orders_0 24 rfl rfl
theorem dksX0_orders_2 : cX0_orders.data.toList.drop 48 = dktX0_orders_2 := dk_seg dksX0_orders_1 24 rfl rfl
theorem dksX0_orders_3 : cX0_orders.data.toList.drop 71 = dktX0_orders_3 := dk_seg dksX0_orders_2 23 rfl rfl
theorem dksX0_orders_4 : cX0_orders.data.toList.drop 95 = dktX0_orders_4 := dk_seg dksX0_orders_3 24 rfl rfl
theorem dksX0_orders_5 : cX0_orders.data.toList.drop 119 = dktX0_orders_5 := dk_seg dksX0_orders_4 24 rfl rfl
theorem dksX0_orders_6 : cX0_orders.data.toList.drop 143 = dktX0_orders_6 := dk_seg dksX0_orders_5 24 rfl rfl
theorem dksX0_orders_7 : cX0_orders.data.toList.drop 165 = dktX0_orders_7 := dk_seg dksX0_orders_6 22 rfl rfl
theorem dX0_orders_0 : decode cX0_orders 0 = .ok (.iload_n 3, 1) := dk_29 (dk_at dksX0_orders_0 0 rfl rfl)
theorem dX0_orders_1 : decode cX0_orders 1 = .ok (.ifCond .ne 81, 3) := dk_154 0 81 (dk_at dksX0_orders_0 1 rfl rfl)
theorem dX0_orders_4 : decode cX0_orders 4 = .ok (.iload_n 1, 1) := dk_27 (dk_at dksX0_orders_0 4 rfl rfl)
theorem dX0_orders_5 : decode cX0_orders 5 = .ok (.iconst (-1), 1) := dk_2 (dk_at dksX0_orders_0 5 rfl rfl)
theorem dX0_orders_6 : decode cX0_orders 6 = .ok (.if_icmp .ne 12, 3) := dk_160 0 12 (dk_at dksX0_orders_0 6 rfl rfl)
theorem dX0_orders_9 : decode cX0_orders 9 = .ok (.aload_n 0, 1) := dk_42 (dk_at dksX0_orders_0 9 rfl rfl)
theorem dX0_orders_10 : decode cX0_orders 10 = .ok (.iload_n 2, 1) := dk_28 (dk_at dksX0_orders_0 10 rfl rfl)
theorem dX0_orders_11 : decode cX0_orders 11 = .ok (.invokevirtual 68, 3) := dk_182 0 68 (dk_at dksX0_orders_0 11 rfl rfl)
theorem dX0_orders_14 : decode cX0_orders 14 = .ok (.ineg, 1) := dk_116 (dk_at dksX0_orders_0 14 rfl rfl)
theorem dX0_orders_15 : decode cX0_orders 15 = .ok (.goto 5, 3) := dk_167 0 5 (dk_at dksX0_orders_0 15 rfl rfl)
theorem dX0_orders_18 : decode cX0_orders 18 = .ok (.iload 6, 2) := dk_21 6 (dk_at dksX0_orders_0 18 rfl rfl)
theorem dX0_orders_20 : decode cX0_orders 20 = .ok (.istore 7, 2) := dk_54 7 (dk_at dksX0_orders_0 20 rfl rfl)
theorem dX0_orders_22 : decode cX0_orders 22 = .ok (.aload_n 0, 1) := dk_42 (dk_at dksX0_orders_0 22 rfl rfl)
theorem dX0_orders_23 : decode cX0_orders 23 = .ok (.aload_n 0, 1) := dk_42 (dk_at dksX0_orders_0 23 rfl rfl)
theorem dX0_orders_24 : decode cX0_orders 24 = .ok (.getfield 436, 3) := dk_180 1 180 (dk_at dksX0_orders_1 0 rfl rfl)
theorem dX0_orders_27 : decode cX0_orders 27 = .ok (.ifCond .eq 12, 3) := dk_153 0 12 (dk_at dksX0_orders_1 3 rfl rfl)
theorem dX0_orders_30 : decode cX0_orders 30 = .ok (.iload 7, 2) := dk_21 7 (dk_at dksX0_orders_1 6 rfl rfl)
theorem dX0_orders_32 : decode cX0_orders 32 = .ok (.aload_n 0, 1) := dk_42 (dk_at dksX0_orders_1 8 rfl rfl)
theorem dX0_orders_33 : decode cX0_orders 33 = .ok (.getfield 440, 3) := dk_180 1 184 (dk_at dksX0_orders_1 9 rfl rfl)
theorem dX0_orders_36 : decode cX0_orders 36 = .ok (.if_icmp .le 8, 3) := dk_164 0 8 (dk_at dksX0_orders_1 12 rfl rfl)
theorem dX0_orders_39 : decode cX0_orders 39 = .ok (.iload 5, 2) := dk_21 5 (dk_at dksX0_orders_1 15 rfl rfl)
theorem dX0_orders_41 : decode cX0_orders 41 = .ok (.goto 7, 3) := dk_167 0 7 (dk_at dksX0_orders_1 17 rfl rfl)
theorem dX0_orders_44 : decode cX0_orders 44 = .ok (.aload_n 0, 1) := dk_42 (dk_at dksX0_orders_1 20 rfl rfl)
theorem dX0_orders_45 : decode cX0_orders 45 = .ok (.getfield 443, 3) := dk_180 1 187 (dk_at dksX0_orders_1 21 rfl rfl)
theorem dX0_orders_48 : decode cX0_orders 48 = .ok (.putfield 443, 3) := dk_181 1 187 (dk_at dksX0_orders_2 0 rfl rfl)
theorem dX0_orders_51 : decode cX0_orders 51 = .ok (.aload_n 0, 1) := dk_42 (dk_at dksX0_orders_2 3 rfl rfl)
theorem dX0_orders_52 : decode cX0_orders 52 = .ok (.aload_n 0, 1) := dk_42 (dk_at dksX0_orders_2 4 rfl rfl)
theorem dX0_orders_53 : decode cX0_orders 53 = .ok (.getfield 436, 3) := dk_180 1 180 (dk_at dksX0_orders_2 5 rfl rfl)
theorem dX0_orders_56 : decode cX0_orders 56 = .ok (.ifCond .eq 15, 3) := dk_153 0 15 (dk_at dksX0_orders_2 8 rfl rfl)
theorem dX0_orders_59 : decode cX0_orders 59 = .ok (.aload_n 0, 1) := dk_42 (dk_at dksX0_orders_2 11 rfl rfl)
theorem dX0_orders_60 : decode cX0_orders 60 = .ok (.getfield 440, 3) := dk_180 1 184 (dk_at dksX0_orders_2 12 rfl rfl)
theorem dX0_orders_63 : decode cX0_orders 63 = .ok (.iload 7, 2) := dk_21 7 (dk_at dksX0_orders_2 15 rfl rfl)
theorem dX0_orders_65 : decode cX0_orders 65 = .ok (.invokestatic 7, 3) := dk_184 0 7 (dk_at dksX0_orders_2 17 rfl rfl)
theorem dX0_orders_68 : decode cX0_orders 68 = .ok (.goto 5, 3) := dk_167 0 5 (dk_at dksX0_orders_2 20 rfl rfl)
theorem dX0_orders_71 : decode cX0_orders 71 = .ok (.iload 7, 2) := dk_21 7 (dk_at dksX0_orders_3 0 rfl rfl)
theorem dX0_orders_73 : decode cX0_orders 73 = .ok (.putfield 440, 3) := dk_181 1 184 (dk_at dksX0_orders_3 2 rfl rfl)
theorem dX0_orders_76 : decode cX0_orders 76 = .ok (.aload_n 0, 1) := dk_42 (dk_at dksX0_orders_3 5 rfl rfl)
theorem dX0_orders_77 : decode cX0_orders 77 = .ok (.iconst 1, 1) := dk_4 (dk_at dksX0_orders_3 6 rfl rfl)
theorem dX0_orders_78 : decode cX0_orders 78 = .ok (.putfield 436, 3) := dk_181 1 180 (dk_at dksX0_orders_3 7 rfl rfl)
theorem dX0_orders_81 : decode cX0_orders 81 = .ok (.return_, 1) := dk_177 (dk_at dksX0_orders_3 10 rfl rfl)
theorem dX0_orders_82 : decode cX0_orders 82 = .ok (.iconst 0, 1) := dk_3 (dk_at dksX0_orders_3 11 rfl rfl)
theorem dX0_orders_83 : decode cX0_orders 83 = .ok (.istore 7, 2) := dk_54 7 (dk_at dksX0_orders_3 12 rfl rfl)
theorem dX0_orders_85 : decode cX0_orders 85 = .ok (.iload 7, 2) := dk_21 7 (dk_at dksX0_orders_3 14 rfl rfl)
theorem dX0_orders_87 : decode cX0_orders 87 = .ok (.aload_n 0, 1) := dk_42 (dk_at dksX0_orders_3 16 rfl rfl)
theorem dX0_orders_88 : decode cX0_orders 88 = .ok (.getfield 18, 3) := dk_180 0 18 (dk_at dksX0_orders_3 17 rfl rfl)
theorem dX0_orders_91 : decode cX0_orders 91 = .ok (.if_icmp .ge 83, 3) := dk_162 0 83 (dk_at dksX0_orders_3 20 rfl rfl)
theorem dX0_orders_94 : decode cX0_orders 94 = .ok (.iload_n 3, 1) := dk_29 (dk_at dksX0_orders_3 23 rfl rfl)
theorem dX0_orders_95 : decode cX0_orders 95 = .ok (.iload 7, 2) := dk_21 7 (dk_at dksX0_orders_4 0 rfl rfl)
theorem dX0_orders_97 : decode cX0_orders 97 = .ok (.invokestatic 128, 3) := dk_184 0 128 (dk_at dksX0_orders_4 2 rfl rfl)
theorem dX0_orders_100 : decode cX0_orders 100 = .ok (.ifCond .ne 6, 3) := dk_154 0 6 (dk_at dksX0_orders_4 5 rfl rfl)
theorem dX0_orders_103 : decode cX0_orders 103 = .ok (.goto 65, 3) := dk_167 0 65 (dk_at dksX0_orders_4 8 rfl rfl)
theorem dX0_orders_106 : decode cX0_orders 106 = .ok (.aload_n 0, 1) := dk_42 (dk_at dksX0_orders_4 11 rfl rfl)
theorem dX0_orders_107 : decode cX0_orders 107 = .ok (.iload 4, 2) := dk_21 4 (dk_at dksX0_orders_4 12 rfl rfl)
theorem dX0_orders_109 : decode cX0_orders 109 = .ok (.invokevirtual 423, 3) := dk_182 1 167 (dk_at dksX0_orders_4 14 rfl rfl)
theorem dX0_orders_112 : decode cX0_orders 112 = .ok (.aload_n 0, 1) := dk_42 (dk_at dksX0_orders_4 17 rfl rfl)
theorem dX0_orders_113 : decode cX0_orders 113 = .ok (.iload 7, 2) := dk_21 7 (dk_at dksX0_orders_4 18 rfl rfl)
theorem dX0_orders_115 : decode cX0_orders 115 = .ok (.iload_n 2, 1) := dk_28 (dk_at dksX0_orders_4 20 rfl rfl)
theorem dX0_orders_116 : decode cX0_orders 116 = .ok (.invokevirtual 405, 3) := dk_182 1 149 (dk_at dksX0_orders_4 21 rfl rfl)
theorem dX0_orders_119 : decode cX0_orders 119 = .ok (.istore 8, 2) := dk_54 8 (dk_at dksX0_orders_5 0 rfl rfl)
theorem dX0_orders_121 : decode cX0_orders 121 = .ok (.aload_n 0, 1) := dk_42 (dk_at dksX0_orders_5 2 rfl rfl)
theorem dX0_orders_122 : decode cX0_orders 122 = .ok (.iload_n 1, 1) := dk_27 (dk_at dksX0_orders_5 3 rfl rfl)
theorem dX0_orders_123 : decode cX0_orders 123 = .ok (.iload_n 2, 1) := dk_28 (dk_at dksX0_orders_5 4 rfl rfl)
theorem dX0_orders_124 : decode cX0_orders 124 = .ok (.iload_n 3, 1) := dk_29 (dk_at dksX0_orders_5 5 rfl rfl)
theorem dX0_orders_125 : decode cX0_orders 125 = .ok (.iconst 1, 1) := dk_4 (dk_at dksX0_orders_5 6 rfl rfl)
theorem dX0_orders_126 : decode cX0_orders 126 = .ok (.iload 7, 2) := dk_21 7 (dk_at dksX0_orders_5 7 rfl rfl)
theorem dX0_orders_128 : decode cX0_orders 128 = .ok (.ishl, 1) := dk_120 (dk_at dksX0_orders_5 9 rfl rfl)
theorem dX0_orders_129 : decode cX0_orders 129 = .ok (.iconst (-1), 1) := dk_2 (dk_at dksX0_orders_5 10 rfl rfl)
theorem dX0_orders_130 : decode cX0_orders 130 = .ok (.ixor, 1) := dk_130 (dk_at dksX0_orders_5 11 rfl rfl)
theorem dX0_orders_131 : decode cX0_orders 131 = .ok (.iand, 1) := dk_126 (dk_at dksX0_orders_5 12 rfl rfl)
theorem dX0_orders_132 : decode cX0_orders 132 = .ok (.iload 4, 2) := dk_21 4 (dk_at dksX0_orders_5 13 rfl rfl)
theorem dX0_orders_134 : decode cX0_orders 134 = .ok (.iconst 1, 1) := dk_4 (dk_at dksX0_orders_5 15 rfl rfl)
theorem dX0_orders_135 : decode cX0_orders 135 = .ok (.iadd, 1) := dk_96 (dk_at dksX0_orders_5 16 rfl rfl)
theorem dX0_orders_136 : decode cX0_orders 136 = .ok (.bipush 10, 2) := dk_16 10 (dk_at dksX0_orders_5 17 rfl rfl)
theorem dX0_orders_138 : decode cX0_orders 138 = .ok (.iload 5, 2) := dk_21 5 (dk_at dksX0_orders_5 19 rfl rfl)
theorem dX0_orders_140 : decode cX0_orders 140 = .ok (.imul, 1) := dk_104 (dk_at dksX0_orders_5 21 rfl rfl)
theorem dX0_orders_141 : decode cX0_orders 141 = .ok (.iload 7, 2) := dk_21 7 (dk_at dksX0_orders_5 22 rfl rfl)
theorem dX0_orders_143 : decode cX0_orders 143 = .ok (.iadd, 1) := dk_96 (dk_at dksX0_orders_6 0 rfl rfl)
theorem dX0_orders_144 : decode cX0_orders 144 = .ok (.iconst 1, 1) := dk_4 (dk_at dksX0_orders_6 1 rfl rfl)
theorem dX0_orders_145 : decode cX0_orders 145 = .ok (.iadd, 1) := dk_96 (dk_at dksX0_orders_6 2 rfl rfl)
theorem dX0_orders_146 : decode cX0_orders 146 = .ok (.iload 7, 2) := dk_21 7 (dk_at dksX0_orders_6 3 rfl rfl)
theorem dX0_orders_148 : decode cX0_orders 148 = .ok (.iload_n 1, 1) := dk_27 (dk_at dksX0_orders_6 5 rfl rfl)
theorem dX0_orders_149 : decode cX0_orders 149 = .ok (.if_icmp .ne 8, 3) := dk_160 0 8 (dk_at dksX0_orders_6 6 rfl rfl)
theorem dX0_orders_152 : decode cX0_orders 152 = .ok (.iload 8, 2) := dk_21 8 (dk_at dksX0_orders_6 9 rfl rfl)
theorem dX0_orders_154 : decode cX0_orders 154 = .ok (.goto 5, 3) := dk_167 0 5 (dk_at dksX0_orders_6 11 rfl rfl)
theorem dX0_orders_157 : decode cX0_orders 157 = .ok (.iload 6, 2) := dk_21 6 (dk_at dksX0_orders_6 14 rfl rfl)
theorem dX0_orders_159 : decode cX0_orders 159 = .ok (.invokevirtual 446, 3) := dk_182 1 190 (dk_at dksX0_orders_6 16 rfl rfl)
theorem dX0_orders_162 : decode cX0_orders 162 = .ok (.aload_n 0, 1) := dk_42 (dk_at dksX0_orders_6 19 rfl rfl)
theorem dX0_orders_163 : decode cX0_orders 163 = .ok (.iload 4, 2) := dk_21 4 (dk_at dksX0_orders_6 20 rfl rfl)
theorem dX0_orders_165 : decode cX0_orders 165 = .ok (.invokevirtual 425, 3) := dk_182 1 169 (dk_at dksX0_orders_7 0 rfl rfl)
theorem dX0_orders_168 : decode cX0_orders 168 = .ok (.iinc 7 1, 3) := dk_132 7 1 (dk_at dksX0_orders_7 3 rfl rfl)
theorem dX0_orders_171 : decode cX0_orders 171 = .ok (.goto (-86), 3) := dk_167 255 170 (dk_at dksX0_orders_7 6 rfl rfl)
theorem dX0_orders_174 : decode cX0_orders 174 = .ok (.return_, 1) := dk_177 (dk_at dksX0_orders_7 9 rfl rfl)
abbrev cX0_best : ByteArray := prog_1_method_70_code
def yX0_best : MethodName := ⟨RX0, "best", "(II)I"⟩
def dkwX0_best_3 : List UInt8 := [27, 28, 5, 160, 0, 7, 4, 167, 0, 4, 3, 182, 1, 198, 172, 42, 27, 182, 1, 202, 172]
abbrev dktX0_best_3 : List UInt8 := dkwX0_best_3 ++ []
def dkwX0_best_2 : List UInt8 := [42, 2, 27, 182, 1, 194, 28, 154, 0, 10, 42, 180, 1, 187, 167, 0, 8, 42, 180, 1, 184, 116, 172, 42]
abbrev dktX0_best_2 : List UInt8 := dkwX0_best_2 ++ dktX0_best_3
def dkwX0_best_1 : List UInt8 := [170, 0, 0, 0, 0, 0, 0, 71, 0, 0, 0, 0, 0, 0, 0, 3, 0, 0, 0, 32, 0, 0, 0, 32, 0, 0, 0, 55, 0, 0, 0, 55]
abbrev dktX0_best_1 : List UInt8 := dkwX0_best_1 ++ dktX0_best_2
def dkwX0_best_0 : List UInt8 := [27, 184, 0, 55, 153, 0, 15, 28, 133, 9, 20, 0, 123, 184, 0, 14, 154, 0, 7, 17, 252, 24, 172, 28]
abbrev dktX0_best_0 : List UInt8 := dkwX0_best_0 ++ dktX0_best_1
theorem dksX0_best_0 : cX0_best.data.toList.drop 0 = dktX0_best_0 := by decide +kernel
theorem dksX0_best_1 : cX0_best.data.toList.drop 24 = dktX0_best_1 := dk_seg dksX0_best_0 24 rfl rfl
theorem dksX0_best_2 : cX0_best.data.toList.drop 56 = dktX0_best_2 := dk_seg dksX0_best_1 32 rfl rfl
theorem dksX0_best_3 : cX0_best.data.toList.drop 80 = dktX0_best_3 := dk_seg dksX0_best_2 24 rfl rfl
theorem dX0_best_0 : decode cX0_best 0 = .ok (.iload_n 1, 1) := dk_27 (dk_at dksX0_best_0 0 rfl rfl)
theorem dX0_best_1 : decode cX0_best 1 = .ok (.invokestatic 55, 3) := dk_184 0 55 (dk_at dksX0_best_0 1 rfl rfl)
theorem dX0_best_4 : decode cX0_best 4 = .ok (.ifCond .eq 15, 3) := dk_153 0 15 (dk_at dksX0_best_0 4 rfl rfl)
theorem dX0_best_7 : decode cX0_best 7 = .ok (.iload_n 2, 1) := dk_28 (dk_at dksX0_best_0 7 rfl rfl)
theorem dX0_best_8 : decode cX0_best 8 = .ok (.i2l, 1) := dk_133 (dk_at dksX0_best_0 8 rfl rfl)
theorem dX0_best_9 : decode cX0_best 9 = .ok (.lconst 0, 1) := dk_9 (dk_at dksX0_best_0 9 rfl rfl)
theorem dX0_best_10 : decode cX0_best 10 = .ok (.ldc2_w 123, 3) := dk_20 0 123 (dk_at dksX0_best_0 10 rfl rfl)
theorem dX0_best_13 : decode cX0_best 13 = .ok (.invokestatic 14, 3) := dk_184 0 14 (dk_at dksX0_best_0 13 rfl rfl)
theorem dX0_best_16 : decode cX0_best 16 = .ok (.ifCond .ne 7, 3) := dk_154 0 7 (dk_at dksX0_best_0 16 rfl rfl)
theorem dX0_best_19 : decode cX0_best 19 = .ok (.sipush (-1000), 3) := dk_17 252 24 (dk_at dksX0_best_0 19 rfl rfl)
theorem dX0_best_22 : decode cX0_best 22 = .ok (.ireturn, 1) := dk_172 (dk_at dksX0_best_0 22 rfl rfl)
theorem dX0_best_23 : decode cX0_best 23 = .ok (.iload_n 2, 1) := dk_28 (dk_at dksX0_best_0 23 rfl rfl)
theorem dX0_best_24 : decode cX0_best 24 = .ok (.tableswitch 71 0 3 #[32, 32, 55, 55], 32) := by decide +kernel
theorem dX0_best_56 : decode cX0_best 56 = .ok (.aload_n 0, 1) := dk_42 (dk_at dksX0_best_2 0 rfl rfl)
theorem dX0_best_57 : decode cX0_best 57 = .ok (.iconst (-1), 1) := dk_2 (dk_at dksX0_best_2 1 rfl rfl)
theorem dX0_best_58 : decode cX0_best 58 = .ok (.iload_n 1, 1) := dk_27 (dk_at dksX0_best_2 2 rfl rfl)
theorem dX0_best_59 : decode cX0_best 59 = .ok (.invokevirtual 450, 3) := dk_182 1 194 (dk_at dksX0_best_2 3 rfl rfl)
theorem dX0_best_62 : decode cX0_best 62 = .ok (.iload_n 2, 1) := dk_28 (dk_at dksX0_best_2 6 rfl rfl)
theorem dX0_best_63 : decode cX0_best 63 = .ok (.ifCond .ne 10, 3) := dk_154 0 10 (dk_at dksX0_best_2 7 rfl rfl)
theorem dX0_best_66 : decode cX0_best 66 = .ok (.aload_n 0, 1) := dk_42 (dk_at dksX0_best_2 10 rfl rfl)
theorem dX0_best_67 : decode cX0_best 67 = .ok (.getfield 443, 3) := dk_180 1 187 (dk_at dksX0_best_2 11 rfl rfl)
theorem dX0_best_70 : decode cX0_best 70 = .ok (.goto 8, 3) := dk_167 0 8 (dk_at dksX0_best_2 14 rfl rfl)
theorem dX0_best_73 : decode cX0_best 73 = .ok (.aload_n 0, 1) := dk_42 (dk_at dksX0_best_2 17 rfl rfl)
theorem dX0_best_74 : decode cX0_best 74 = .ok (.getfield 440, 3) := dk_180 1 184 (dk_at dksX0_best_2 18 rfl rfl)
theorem dX0_best_77 : decode cX0_best 77 = .ok (.ineg, 1) := dk_116 (dk_at dksX0_best_2 21 rfl rfl)
theorem dX0_best_78 : decode cX0_best 78 = .ok (.ireturn, 1) := dk_172 (dk_at dksX0_best_2 22 rfl rfl)
theorem dX0_best_79 : decode cX0_best 79 = .ok (.aload_n 0, 1) := dk_42 (dk_at dksX0_best_2 23 rfl rfl)
theorem dX0_best_80 : decode cX0_best 80 = .ok (.iload_n 1, 1) := dk_27 (dk_at dksX0_best_3 0 rfl rfl)
theorem dX0_best_81 : decode cX0_best 81 = .ok (.iload_n 2, 1) := dk_28 (dk_at dksX0_best_3 1 rfl rfl)
theorem dX0_best_82 : decode cX0_best 82 = .ok (.iconst 2, 1) := dk_5 (dk_at dksX0_best_3 2 rfl rfl)
theorem dX0_best_83 : decode cX0_best 83 = .ok (.if_icmp .ne 7, 3) := dk_160 0 7 (dk_at dksX0_best_3 3 rfl rfl)
theorem dX0_best_86 : decode cX0_best 86 = .ok (.iconst 1, 1) := dk_4 (dk_at dksX0_best_3 6 rfl rfl)
theorem dX0_best_87 : decode cX0_best 87 = .ok (.goto 4, 3) := dk_167 0 4 (dk_at dksX0_best_3 7 rfl rfl)
theorem dX0_best_90 : decode cX0_best 90 = .ok (.iconst 0, 1) := dk_3 (dk_at dksX0_best_3 10 rfl rfl)
theorem dX0_best_91 : decode cX0_best 91 = .ok (.invokevirtual 454, 3) := dk_182 1 198 (dk_at dksX0_best_3 11 rfl rfl)
theorem dX0_best_94 : decode cX0_best 94 = .ok (.ireturn, 1) := dk_172 (dk_at dksX0_best_3 14 rfl rfl)
theorem dX0_best_95 : decode cX0_best 95 = .ok (.aload_n 0, 1) := dk_42 (dk_at dksX0_best_3 15 rfl rfl)
theorem dX0_best_96 : decode cX0_best 96 = .ok (.iload_n 1, 1) := dk_27 (dk_at dksX0_best_3 16 rfl rfl)
theorem dX0_best_97 : decode cX0_best 97 = .ok (.invokevirtual 458, 3) := dk_182 1 202 (dk_at dksX0_best_3 17 rfl rfl)
theorem dX0_best_100 : decode cX0_best 100 = .ok (.ireturn, 1) := dk_172 (dk_at dksX0_best_3 20 rfl rfl)
abbrev cX0_alone : ByteArray := prog_1_method_68_code
def yX0_alone : MethodName := ⟨RX0, "alone", "(IZ)I"⟩
def dkwX0_alone_3 : List UInt8 := [54, 4, 132, 5, 1, 167, 255, 189, 28, 153, 0, 7, 29, 167, 0, 5, 21, 4, 172]
abbrev dktX0_alone_3 : List UInt8 := dkwX0_alone_3 ++ []
def dkwX0_alone_2 : List UInt8 := [21, 7, 153, 0, 8, 21, 5, 167, 0, 4, 29, 62, 21, 7, 153, 0, 8, 21, 6, 167, 0, 5, 21, 4]
abbrev dktX0_alone_2 : List UInt8 := dkwX0_alone_2 ++ dktX0_alone_3
def dkwX0_alone_1 : List UInt8 := [182, 1, 172, 54, 6, 29, 2, 159, 0, 10, 21, 6, 21, 4, 164, 0, 7, 4, 167, 0, 4, 3, 54, 7]
abbrev dktX0_alone_1 : List UInt8 := dkwX0_alone_1 ++ dktX0_alone_2
def dkwX0_alone_0 : List UInt8 := [2, 62, 2, 54, 4, 3, 54, 5, 21, 5, 42, 180, 0, 18, 162, 0, 64, 42, 21, 5, 27, 3]
abbrev dktX0_alone_0 : List UInt8 := dkwX0_alone_0 ++ dktX0_alone_1
theorem dksX0_alone_0 : cX0_alone.data.toList.drop 0 = dktX0_alone_0 := by decide +kernel
theorem dksX0_alone_1 : cX0_alone.data.toList.drop 22 = dktX0_alone_1 := dk_seg dksX0_alone_0 22 rfl rfl
theorem dksX0_alone_2 : cX0_alone.data.toList.drop 46 = dktX0_alone_2 := dk_seg dksX0_alone_1 24 rfl rfl
theorem dksX0_alone_3 : cX0_alone.data.toList.drop 70 = dktX0_alone_3 := dk_seg dksX0_alone_2 24 rfl rfl
theorem dX0_alone_0 : decode cX0_alone 0 = .ok (.iconst (-1), 1) := dk_2 (dk_at dksX0_alone_0 0 rfl rfl)
theorem dX0_alone_1 : decode cX0_alone 1 = .ok (.istore_n 3, 1) := dk_62 (dk_at dksX0_alone_0 1 rfl rfl)
theorem dX0_alone_2 : decode cX0_alone 2 = .ok (.iconst (-1), 1) := dk_2 (dk_at dksX0_alone_0 2 rfl rfl)
theorem dX0_alone_3 : decode cX0_alone 3 = .ok (.istore 4, 2) := dk_54 4 (dk_at dksX0_alone_0 3 rfl rfl)
theorem dX0_alone_5 : decode cX0_alone 5 = .ok (.iconst 0, 1) := dk_3 (dk_at dksX0_alone_0 5 rfl rfl)
theorem dX0_alone_6 : decode cX0_alone 6 = .ok (.istore 5, 2) := dk_54 5 (dk_at dksX0_alone_0 6 rfl rfl)
theorem dX0_alone_8 : decode cX0_alone 8 = .ok (.iload 5, 2) := dk_21 5 (dk_at dksX0_alone_0 8 rfl rfl)
theorem dX0_alone_10 : decode cX0_alone 10 = .ok (.aload_n 0, 1) := dk_42 (dk_at dksX0_alone_0 10 rfl rfl)
theorem dX0_alone_11 : decode cX0_alone 11 = .ok (.getfield 18, 3) := dk_180 0 18 (dk_at dksX0_alone_0 11 rfl rfl)
theorem dX0_alone_14 : decode cX0_alone 14 = .ok (.if_icmp .ge 64, 3) := dk_162 0 64 (dk_at dksX0_alone_0 14 rfl rfl)
theorem dX0_alone_17 : decode cX0_alone 17 = .ok (.aload_n 0, 1) := dk_42 (dk_at dksX0_alone_0 17 rfl rfl)
theorem dX0_alone_18 : decode cX0_alone 18 = .ok (.iload 5, 2) := dk_21 5 (dk_at dksX0_alone_0 18 rfl rfl)
theorem dX0_alone_20 : decode cX0_alone 20 = .ok (.iload_n 1, 1) := dk_27 (dk_at dksX0_alone_0 20 rfl rfl)
theorem dX0_alone_21 : decode cX0_alone 21 = .ok (.iconst 0, 1) := dk_3 (dk_at dksX0_alone_0 21 rfl rfl)
theorem dX0_alone_22 : decode cX0_alone 22 = .ok (.invokevirtual 428, 3) := dk_182 1 172 (dk_at dksX0_alone_1 0 rfl rfl)
theorem dX0_alone_25 : decode cX0_alone 25 = .ok (.istore 6, 2) := dk_54 6 (dk_at dksX0_alone_1 3 rfl rfl)
theorem dX0_alone_27 : decode cX0_alone 27 = .ok (.iload_n 3, 1) := dk_29 (dk_at dksX0_alone_1 5 rfl rfl)
theorem dX0_alone_28 : decode cX0_alone 28 = .ok (.iconst (-1), 1) := dk_2 (dk_at dksX0_alone_1 6 rfl rfl)
theorem dX0_alone_29 : decode cX0_alone 29 = .ok (.if_icmp .eq 10, 3) := dk_159 0 10 (dk_at dksX0_alone_1 7 rfl rfl)
theorem dX0_alone_32 : decode cX0_alone 32 = .ok (.iload 6, 2) := dk_21 6 (dk_at dksX0_alone_1 10 rfl rfl)
theorem dX0_alone_34 : decode cX0_alone 34 = .ok (.iload 4, 2) := dk_21 4 (dk_at dksX0_alone_1 12 rfl rfl)
theorem dX0_alone_36 : decode cX0_alone 36 = .ok (.if_icmp .le 7, 3) := dk_164 0 7 (dk_at dksX0_alone_1 14 rfl rfl)
theorem dX0_alone_39 : decode cX0_alone 39 = .ok (.iconst 1, 1) := dk_4 (dk_at dksX0_alone_1 17 rfl rfl)
theorem dX0_alone_40 : decode cX0_alone 40 = .ok (.goto 4, 3) := dk_167 0 4 (dk_at dksX0_alone_1 18 rfl rfl)
theorem dX0_alone_43 : decode cX0_alone 43 = .ok (.iconst 0, 1) := dk_3 (dk_at dksX0_alone_1 21 rfl rfl)
theorem dX0_alone_44 : decode cX0_alone 44 = .ok (.istore 7, 2) := dk_54 7 (dk_at dksX0_alone_1 22 rfl rfl)
theorem dX0_alone_46 : decode cX0_alone 46 = .ok (.iload 7, 2) := dk_21 7 (dk_at dksX0_alone_2 0 rfl rfl)
theorem dX0_alone_48 : decode cX0_alone 48 = .ok (.ifCond .eq 8, 3) := dk_153 0 8 (dk_at dksX0_alone_2 2 rfl rfl)
theorem dX0_alone_51 : decode cX0_alone 51 = .ok (.iload 5, 2) := dk_21 5 (dk_at dksX0_alone_2 5 rfl rfl)
theorem dX0_alone_53 : decode cX0_alone 53 = .ok (.goto 4, 3) := dk_167 0 4 (dk_at dksX0_alone_2 7 rfl rfl)
theorem dX0_alone_56 : decode cX0_alone 56 = .ok (.iload_n 3, 1) := dk_29 (dk_at dksX0_alone_2 10 rfl rfl)
theorem dX0_alone_57 : decode cX0_alone 57 = .ok (.istore_n 3, 1) := dk_62 (dk_at dksX0_alone_2 11 rfl rfl)
theorem dX0_alone_58 : decode cX0_alone 58 = .ok (.iload 7, 2) := dk_21 7 (dk_at dksX0_alone_2 12 rfl rfl)
theorem dX0_alone_60 : decode cX0_alone 60 = .ok (.ifCond .eq 8, 3) := dk_153 0 8 (dk_at dksX0_alone_2 14 rfl rfl)
theorem dX0_alone_63 : decode cX0_alone 63 = .ok (.iload 6, 2) := dk_21 6 (dk_at dksX0_alone_2 17 rfl rfl)
theorem dX0_alone_65 : decode cX0_alone 65 = .ok (.goto 5, 3) := dk_167 0 5 (dk_at dksX0_alone_2 19 rfl rfl)
theorem dX0_alone_68 : decode cX0_alone 68 = .ok (.iload 4, 2) := dk_21 4 (dk_at dksX0_alone_2 22 rfl rfl)
theorem dX0_alone_70 : decode cX0_alone 70 = .ok (.istore 4, 2) := dk_54 4 (dk_at dksX0_alone_3 0 rfl rfl)
theorem dX0_alone_72 : decode cX0_alone 72 = .ok (.iinc 5 1, 3) := dk_132 5 1 (dk_at dksX0_alone_3 2 rfl rfl)
theorem dX0_alone_75 : decode cX0_alone 75 = .ok (.goto (-67), 3) := dk_167 255 189 (dk_at dksX0_alone_3 5 rfl rfl)
theorem dX0_alone_78 : decode cX0_alone 78 = .ok (.iload_n 2, 1) := dk_28 (dk_at dksX0_alone_3 8 rfl rfl)
theorem dX0_alone_79 : decode cX0_alone 79 = .ok (.ifCond .eq 7, 3) := dk_153 0 7 (dk_at dksX0_alone_3 9 rfl rfl)
theorem dX0_alone_82 : decode cX0_alone 82 = .ok (.iload_n 3, 1) := dk_29 (dk_at dksX0_alone_3 12 rfl rfl)
theorem dX0_alone_83 : decode cX0_alone 83 = .ok (.goto 5, 3) := dk_167 0 5 (dk_at dksX0_alone_3 13 rfl rfl)
theorem dX0_alone_86 : decode cX0_alone 86 = .ok (.iload 4, 2) := dk_21 4 (dk_at dksX0_alone_3 16 rfl rfl)
theorem dX0_alone_88 : decode cX0_alone 88 = .ok (.ireturn, 1) := dk_172 (dk_at dksX0_alone_3 18 rfl rfl)
abbrev cX0_bare : ByteArray := prog_1_method_69_code
def yX0_bare : MethodName := ⟨RX0, "bare", "(I)I"⟩
def dkwX0_bare_2 : List UInt8 := [3, 182, 1, 169, 28, 172, 58, 4, 42, 3, 182, 1, 169, 25, 4, 191]
abbrev dktX0_bare_2 : List UInt8 := dkwX0_bare_2 ++ []
def dkwX0_bare_1 : List UInt8 := [3, 182, 1, 169, 29, 172, 42, 27, 182, 1, 177, 42, 182, 1, 155, 132, 2, 1, 167, 255, 221, 2, 61, 42]
abbrev dktX0_bare_1 : List UInt8 := dkwX0_bare_1 ++ dktX0_bare_2
def dkwX0_bare_0 : List UInt8 := [42, 3, 182, 1, 167, 3, 61, 28, 16, 20, 163, 0, 35, 42, 27, 182, 0, 68, 154, 0, 12, 28, 62, 42]
abbrev dktX0_bare_0 : List UInt8 := dkwX0_bare_0 ++ dktX0_bare_1
theorem dksX0_bare_0 : cX0_bare.data.toList.drop 0 = dktX0_bare_0 := by decide +kernel
theorem dksX0_bare_1 : cX0_bare.data.toList.drop 24 = dktX0_bare_1 := dk_seg dksX0_bare_0 24 rfl rfl
theorem dksX0_bare_2 : cX0_bare.data.toList.drop 48 = dktX0_bare_2 := dk_seg dksX0_bare_1 24 rfl rfl
theorem dX0_bare_0 : decode cX0_bare 0 = .ok (.aload_n 0, 1) := dk_42 (dk_at dksX0_bare_0 0 rfl rfl)
theorem dX0_bare_1 : decode cX0_bare 1 = .ok (.iconst 0, 1) := dk_3 (dk_at dksX0_bare_0 1 rfl rfl)
theorem dX0_bare_2 : decode cX0_bare 2 = .ok (.invokevirtual 423, 3) := dk_182 1 167 (dk_at dksX0_bare_0 2 rfl rfl)
theorem dX0_bare_5 : decode cX0_bare 5 = .ok (.iconst 0, 1) := dk_3 (dk_at dksX0_bare_0 5 rfl rfl)
theorem dX0_bare_6 : decode cX0_bare 6 = .ok (.istore_n 2, 1) := dk_61 (dk_at dksX0_bare_0 6 rfl rfl)
theorem dX0_bare_7 : decode cX0_bare 7 = .ok (.iload_n 2, 1) := dk_28 (dk_at dksX0_bare_0 7 rfl rfl)
theorem dX0_bare_8 : decode cX0_bare 8 = .ok (.bipush 20, 2) := dk_16 20 (dk_at dksX0_bare_0 8 rfl rfl)
theorem dX0_bare_10 : decode cX0_bare 10 = .ok (.if_icmp .gt 35, 3) := dk_163 0 35 (dk_at dksX0_bare_0 10 rfl rfl)
theorem dX0_bare_13 : decode cX0_bare 13 = .ok (.aload_n 0, 1) := dk_42 (dk_at dksX0_bare_0 13 rfl rfl)
theorem dX0_bare_14 : decode cX0_bare 14 = .ok (.iload_n 1, 1) := dk_27 (dk_at dksX0_bare_0 14 rfl rfl)
theorem dX0_bare_15 : decode cX0_bare 15 = .ok (.invokevirtual 68, 3) := dk_182 0 68 (dk_at dksX0_bare_0 15 rfl rfl)
theorem dX0_bare_18 : decode cX0_bare 18 = .ok (.ifCond .ne 12, 3) := dk_154 0 12 (dk_at dksX0_bare_0 18 rfl rfl)
theorem dX0_bare_21 : decode cX0_bare 21 = .ok (.iload_n 2, 1) := dk_28 (dk_at dksX0_bare_0 21 rfl rfl)
theorem dX0_bare_22 : decode cX0_bare 22 = .ok (.istore_n 3, 1) := dk_62 (dk_at dksX0_bare_0 22 rfl rfl)
theorem dX0_bare_23 : decode cX0_bare 23 = .ok (.aload_n 0, 1) := dk_42 (dk_at dksX0_bare_0 23 rfl rfl)
theorem dX0_bare_24 : decode cX0_bare 24 = .ok (.iconst 0, 1) := dk_3 (dk_at dksX0_bare_1 0 rfl rfl)
theorem dX0_bare_25 : decode cX0_bare 25 = .ok (.invokevirtual 425, 3) := dk_182 1 169 (dk_at dksX0_bare_1 1 rfl rfl)
theorem dX0_bare_28 : decode cX0_bare 28 = .ok (.iload_n 3, 1) := dk_29 (dk_at dksX0_bare_1 4 rfl rfl)
theorem dX0_bare_29 : decode cX0_bare 29 = .ok (.ireturn, 1) := dk_172 (dk_at dksX0_bare_1 5 rfl rfl)
theorem dX0_bare_30 : decode cX0_bare 30 = .ok (.aload_n 0, 1) := dk_42 (dk_at dksX0_bare_1 6 rfl rfl)
theorem dX0_bare_31 : decode cX0_bare 31 = .ok (.iload_n 1, 1) := dk_27 (dk_at dksX0_bare_1 7 rfl rfl)
theorem dX0_bare_32 : decode cX0_bare 32 = .ok (.invokevirtual 433, 3) := dk_182 1 177 (dk_at dksX0_bare_1 8 rfl rfl)
theorem dX0_bare_35 : decode cX0_bare 35 = .ok (.aload_n 0, 1) := dk_42 (dk_at dksX0_bare_1 11 rfl rfl)
theorem dX0_bare_36 : decode cX0_bare 36 = .ok (.invokevirtual 411, 3) := dk_182 1 155 (dk_at dksX0_bare_1 12 rfl rfl)
theorem dX0_bare_39 : decode cX0_bare 39 = .ok (.iinc 2 1, 3) := dk_132 2 1 (dk_at dksX0_bare_1 15 rfl rfl)
theorem dX0_bare_42 : decode cX0_bare 42 = .ok (.goto (-35), 3) := dk_167 255 221 (dk_at dksX0_bare_1 18 rfl rfl)
theorem dX0_bare_45 : decode cX0_bare 45 = .ok (.iconst (-1), 1) := dk_2 (dk_at dksX0_bare_1 21 rfl rfl)
theorem dX0_bare_46 : decode cX0_bare 46 = .ok (.istore_n 2, 1) := dk_61 (dk_at dksX0_bare_1 22 rfl rfl)
theorem dX0_bare_47 : decode cX0_bare 47 = .ok (.aload_n 0, 1) := dk_42 (dk_at dksX0_bare_1 23 rfl rfl)
theorem dX0_bare_48 : decode cX0_bare 48 = .ok (.iconst 0, 1) := dk_3 (dk_at dksX0_bare_2 0 rfl rfl)
theorem dX0_bare_49 : decode cX0_bare 49 = .ok (.invokevirtual 425, 3) := dk_182 1 169 (dk_at dksX0_bare_2 1 rfl rfl)
theorem dX0_bare_52 : decode cX0_bare 52 = .ok (.iload_n 2, 1) := dk_28 (dk_at dksX0_bare_2 4 rfl rfl)
theorem dX0_bare_53 : decode cX0_bare 53 = .ok (.ireturn, 1) := dk_172 (dk_at dksX0_bare_2 5 rfl rfl)
theorem dX0_bare_54 : decode cX0_bare 54 = .ok (.astore 4, 2) := dk_58 4 (dk_at dksX0_bare_2 6 rfl rfl)
theorem dX0_bare_56 : decode cX0_bare 56 = .ok (.aload_n 0, 1) := dk_42 (dk_at dksX0_bare_2 8 rfl rfl)
theorem dX0_bare_57 : decode cX0_bare 57 = .ok (.iconst 0, 1) := dk_3 (dk_at dksX0_bare_2 9 rfl rfl)
theorem dX0_bare_58 : decode cX0_bare 58 = .ok (.invokevirtual 425, 3) := dk_182 1 169 (dk_at dksX0_bare_2 10 rfl rfl)
theorem dX0_bare_61 : decode cX0_bare 61 = .ok (.aload 4, 2) := dk_25 4 (dk_at dksX0_bare_2 13 rfl rfl)
theorem dX0_bare_63 : decode cX0_bare 63 = .ok (.athrow, 1) := dk_191 (dk_at dksX0_bare_2 15 rfl rfl)
abbrev cX0_rowFor : ByteArray := prog_1_method_71_code
def yX0_rowFor : MethodName := ⟨RX0, "rowFor", "(II)I"⟩
def dkwX0_rowFor_3 : List UInt8 := [184, 0, 7, 54, 4, 132, 5, 1, 167, 255, 214, 28, 154, 0, 7, 29, 167, 0, 5, 21, 4, 172]
abbrev dktX0_rowFor_3 : List UInt8 := dkwX0_rowFor_3 ++ []
def dkwX0_rowFor_2 : List UInt8 := [182, 1, 172, 54, 6, 21, 6, 21, 4, 164, 0, 8, 21, 5, 167, 0, 4, 29, 62, 21, 4, 21, 6]
abbrev dktX0_rowFor_2 : List UInt8 := dkwX0_rowFor_2 ++ dktX0_rowFor_3
def dkwX0_rowFor_1 : List UInt8 := [42, 27, 3, 3, 182, 1, 172, 54, 4, 4, 54, 5, 21, 5, 7, 162, 0, 42, 42, 27, 21, 5, 3]
abbrev dktX0_rowFor_1 : List UInt8 := dkwX0_rowFor_1 ++ dktX0_rowFor_2
def dkwX0_rowFor_0 : List UInt8 := [42, 27, 182, 0, 79, 153, 0, 13, 28, 133, 9, 10, 184, 0, 14, 154, 0, 7, 17, 252, 24, 172, 3, 62]
abbrev dktX0_rowFor_0 : List UInt8 := dkwX0_rowFor_0 ++ dktX0_rowFor_1
theorem dksX0_rowFor_0 : cX0_rowFor.data.toList.drop 0 = dktX0_rowFor_0 := by decide +kernel
theorem dksX0_rowFor_1 : cX0_rowFor.data.toList.drop 24 = dktX0_rowFor_1 := dk_seg dksX0_rowFor_0 24 rfl rfl
theorem dksX0_rowFor_2 : cX0_rowFor.data.toList.drop 47 = dktX0_rowFor_2 := dk_seg dksX0_rowFor_1 23 rfl rfl
theorem dksX0_rowFor_3 : cX0_rowFor.data.toList.drop 70 = dktX0_rowFor_3 := dk_seg dksX0_rowFor_2 23 rfl rfl
theorem dX0_rowFor_0 : decode cX0_rowFor 0 = .ok (.aload_n 0, 1) := dk_42 (dk_at dksX0_rowFor_0 0 rfl rfl)
theorem dX0_rowFor_1 : decode cX0_rowFor 1 = .ok (.iload_n 1, 1) := dk_27 (dk_at dksX0_rowFor_0 1 rfl rfl)
theorem dX0_rowFor_2 : decode cX0_rowFor 2 = .ok (.invokevirtual 79, 3) := dk_182 0 79 (dk_at dksX0_rowFor_0 2 rfl rfl)
theorem dX0_rowFor_5 : decode cX0_rowFor 5 = .ok (.ifCond .eq 13, 3) := dk_153 0 13 (dk_at dksX0_rowFor_0 5 rfl rfl)
theorem dX0_rowFor_8 : decode cX0_rowFor 8 = .ok (.iload_n 2, 1) := dk_28 (dk_at dksX0_rowFor_0 8 rfl rfl)
theorem dX0_rowFor_9 : decode cX0_rowFor 9 = .ok (.i2l, 1) := dk_133 (dk_at dksX0_rowFor_0 9 rfl rfl)
theorem dX0_rowFor_10 : decode cX0_rowFor 10 = .ok (.lconst 0, 1) := dk_9 (dk_at dksX0_rowFor_0 10 rfl rfl)
theorem dX0_rowFor_11 : decode cX0_rowFor 11 = .ok (.lconst 1, 1) := dk_10 (dk_at dksX0_rowFor_0 11 rfl rfl)
theorem dX0_rowFor_12 : decode cX0_rowFor 12 = .ok (.invokestatic 14, 3) := dk_184 0 14 (dk_at dksX0_rowFor_0 12 rfl rfl)
theorem dX0_rowFor_15 : decode cX0_rowFor 15 = .ok (.ifCond .ne 7, 3) := dk_154 0 7 (dk_at dksX0_rowFor_0 15 rfl rfl)
theorem dX0_rowFor_18 : decode cX0_rowFor 18 = .ok (.sipush (-1000), 3) := dk_17 252 24 (dk_at dksX0_rowFor_0 18 rfl rfl)
theorem dX0_rowFor_21 : decode cX0_rowFor 21 = .ok (.ireturn, 1) := dk_172 (dk_at dksX0_rowFor_0 21 rfl rfl)
theorem dX0_rowFor_22 : decode cX0_rowFor 22 = .ok (.iconst 0, 1) := dk_3 (dk_at dksX0_rowFor_0 22 rfl rfl)
theorem dX0_rowFor_23 : decode cX0_rowFor 23 = .ok (.istore_n 3, 1) := dk_62 (dk_at dksX0_rowFor_0 23 rfl rfl)
theorem dX0_rowFor_24 : decode cX0_rowFor 24 = .ok (.aload_n 0, 1) := dk_42 (dk_at dksX0_rowFor_1 0 rfl rfl)
theorem dX0_rowFor_25 : decode cX0_rowFor 25 = .ok (.iload_n 1, 1) := dk_27 (dk_at dksX0_rowFor_1 1 rfl rfl)
theorem dX0_rowFor_26 : decode cX0_rowFor 26 = .ok (.iconst 0, 1) := dk_3 (dk_at dksX0_rowFor_1 2 rfl rfl)
theorem dX0_rowFor_27 : decode cX0_rowFor 27 = .ok (.iconst 0, 1) := dk_3 (dk_at dksX0_rowFor_1 3 rfl rfl)
theorem dX0_rowFor_28 : decode cX0_rowFor 28 = .ok (.invokevirtual 428, 3) := dk_182 1 172 (dk_at dksX0_rowFor_1 4 rfl rfl)
theorem dX0_rowFor_31 : decode cX0_rowFor 31 = .ok (.istore 4, 2) := dk_54 4 (dk_at dksX0_rowFor_1 7 rfl rfl)
theorem dX0_rowFor_33 : decode cX0_rowFor 33 = .ok (.iconst 1, 1) := dk_4 (dk_at dksX0_rowFor_1 9 rfl rfl)
theorem dX0_rowFor_34 : decode cX0_rowFor 34 = .ok (.istore 5, 2) := dk_54 5 (dk_at dksX0_rowFor_1 10 rfl rfl)
theorem dX0_rowFor_36 : decode cX0_rowFor 36 = .ok (.iload 5, 2) := dk_21 5 (dk_at dksX0_rowFor_1 12 rfl rfl)
theorem dX0_rowFor_38 : decode cX0_rowFor 38 = .ok (.iconst 4, 1) := dk_7 (dk_at dksX0_rowFor_1 14 rfl rfl)
theorem dX0_rowFor_39 : decode cX0_rowFor 39 = .ok (.if_icmp .ge 42, 3) := dk_162 0 42 (dk_at dksX0_rowFor_1 15 rfl rfl)
theorem dX0_rowFor_42 : decode cX0_rowFor 42 = .ok (.aload_n 0, 1) := dk_42 (dk_at dksX0_rowFor_1 18 rfl rfl)
theorem dX0_rowFor_43 : decode cX0_rowFor 43 = .ok (.iload_n 1, 1) := dk_27 (dk_at dksX0_rowFor_1 19 rfl rfl)
theorem dX0_rowFor_44 : decode cX0_rowFor 44 = .ok (.iload 5, 2) := dk_21 5 (dk_at dksX0_rowFor_1 20 rfl rfl)
theorem dX0_rowFor_46 : decode cX0_rowFor 46 = .ok (.iconst 0, 1) := dk_3 (dk_at dksX0_rowFor_1 22 rfl rfl)
theorem dX0_rowFor_47 : decode cX0_rowFor 47 = .ok (.invokevirtual 428, 3) := dk_182 1 172 (dk_at dksX0_rowFor_2 0 rfl rfl)
theorem dX0_rowFor_50 : decode cX0_rowFor 50 = .ok (.istore 6, 2) := dk_54 6 (dk_at dksX0_rowFor_2 3 rfl rfl)
theorem dX0_rowFor_52 : decode cX0_rowFor 52 = .ok (.iload 6, 2) := dk_21 6 (dk_at dksX0_rowFor_2 5 rfl rfl)
theorem dX0_rowFor_54 : decode cX0_rowFor 54 = .ok (.iload 4, 2) := dk_21 4 (dk_at dksX0_rowFor_2 7 rfl rfl)
theorem dX0_rowFor_56 : decode cX0_rowFor 56 = .ok (.if_icmp .le 8, 3) := dk_164 0 8 (dk_at dksX0_rowFor_2 9 rfl rfl)
theorem dX0_rowFor_59 : decode cX0_rowFor 59 = .ok (.iload 5, 2) := dk_21 5 (dk_at dksX0_rowFor_2 12 rfl rfl)
theorem dX0_rowFor_61 : decode cX0_rowFor 61 = .ok (.goto 4, 3) := dk_167 0 4 (dk_at dksX0_rowFor_2 14 rfl rfl)
theorem dX0_rowFor_64 : decode cX0_rowFor 64 = .ok (.iload_n 3, 1) := dk_29 (dk_at dksX0_rowFor_2 17 rfl rfl)
theorem dX0_rowFor_65 : decode cX0_rowFor 65 = .ok (.istore_n 3, 1) := dk_62 (dk_at dksX0_rowFor_2 18 rfl rfl)
theorem dX0_rowFor_66 : decode cX0_rowFor 66 = .ok (.iload 4, 2) := dk_21 4 (dk_at dksX0_rowFor_2 19 rfl rfl)
theorem dX0_rowFor_68 : decode cX0_rowFor 68 = .ok (.iload 6, 2) := dk_21 6 (dk_at dksX0_rowFor_2 21 rfl rfl)
theorem dX0_rowFor_70 : decode cX0_rowFor 70 = .ok (.invokestatic 7, 3) := dk_184 0 7 (dk_at dksX0_rowFor_3 0 rfl rfl)
theorem dX0_rowFor_73 : decode cX0_rowFor 73 = .ok (.istore 4, 2) := dk_54 4 (dk_at dksX0_rowFor_3 3 rfl rfl)
theorem dX0_rowFor_75 : decode cX0_rowFor 75 = .ok (.iinc 5 1, 3) := dk_132 5 1 (dk_at dksX0_rowFor_3 5 rfl rfl)
theorem dX0_rowFor_78 : decode cX0_rowFor 78 = .ok (.goto (-42), 3) := dk_167 255 214 (dk_at dksX0_rowFor_3 8 rfl rfl)
theorem dX0_rowFor_81 : decode cX0_rowFor 81 = .ok (.iload_n 2, 1) := dk_28 (dk_at dksX0_rowFor_3 11 rfl rfl)
theorem dX0_rowFor_82 : decode cX0_rowFor 82 = .ok (.ifCond .ne 7, 3) := dk_154 0 7 (dk_at dksX0_rowFor_3 12 rfl rfl)
theorem dX0_rowFor_85 : decode cX0_rowFor 85 = .ok (.iload_n 3, 1) := dk_29 (dk_at dksX0_rowFor_3 15 rfl rfl)
theorem dX0_rowFor_86 : decode cX0_rowFor 86 = .ok (.goto 5, 3) := dk_167 0 5 (dk_at dksX0_rowFor_3 16 rfl rfl)
theorem dX0_rowFor_89 : decode cX0_rowFor 89 = .ok (.iload 4, 2) := dk_21 4 (dk_at dksX0_rowFor_3 19 rfl rfl)
theorem dX0_rowFor_91 : decode cX0_rowFor 91 = .ok (.ireturn, 1) := dk_172 (dk_at dksX0_rowFor_3 21 rfl rfl)
abbrev cX0_longest : ByteArray := prog_1_method_72_code
def yX0_longest : MethodName := ⟨RX0, "longest", "()I"⟩
def dkwX0_longest_3 : List UInt8 := [132, 3, 1, 167, 255, 190, 27, 172]
abbrev dktX0_longest_3 : List UInt8 := dkwX0_longest_3 ++ []
def dkwX0_longest_2 : List UInt8 := [167, 0, 4, 27, 60, 28, 42, 180, 0, 132, 21, 5, 46, 184, 0, 7, 61, 132, 5, 1, 167, 255, 211]
abbrev dktX0_longest_2 : List UInt8 := dkwX0_longest_2 ++ dktX0_longest_3
def dkwX0_longest_1 : List UInt8 := [21, 4, 162, 0, 44, 42, 180, 0, 132, 21, 5, 46, 28, 164, 0, 13, 16, 100, 29, 104, 21, 5, 96]
abbrev dktX0_longest_1 : List UInt8 := dkwX0_longest_1 ++ dktX0_longest_2
def dkwX0_longest_0 : List UInt8 := [2, 60, 3, 61, 3, 62, 29, 7, 162, 0, 67, 42, 29, 182, 0, 135, 54, 4, 3, 54, 5, 21, 5]
abbrev dktX0_longest_0 : List UInt8 := dkwX0_longest_0 ++ dktX0_longest_1
theorem dksX0_longest_0 : cX0_longest.data.toList.drop 0 = dktX0_longest_0 := by decide +kernel
theorem dksX0_longest_1 : cX0_longest.data.toList.drop 23 = dktX0_longest_1 := dk_seg dksX0_longest_0 23 rfl rfl
theorem dksX0_longest_2 : cX0_longest.data.toList.drop 46 = dktX0_longest_2 := dk_seg dksX0_longest_1 23 rfl rfl
theorem dksX0_longest_3 : cX0_longest.data.toList.drop 69 = dktX0_longest_3 := dk_seg dksX0_longest_2 23 rfl rfl
theorem dX0_longest_0 : decode cX0_longest 0 = .ok (.iconst (-1), 1) := dk_2 (dk_at dksX0_longest_0 0 rfl rfl)
theorem dX0_longest_1 : decode cX0_longest 1 = .ok (.istore_n 1, 1) := dk_60 (dk_at dksX0_longest_0 1 rfl rfl)
theorem dX0_longest_2 : decode cX0_longest 2 = .ok (.iconst 0, 1) := dk_3 (dk_at dksX0_longest_0 2 rfl rfl)
theorem dX0_longest_3 : decode cX0_longest 3 = .ok (.istore_n 2, 1) := dk_61 (dk_at dksX0_longest_0 3 rfl rfl)
theorem dX0_longest_4 : decode cX0_longest 4 = .ok (.iconst 0, 1) := dk_3 (dk_at dksX0_longest_0 4 rfl rfl)
theorem dX0_longest_5 : decode cX0_longest 5 = .ok (.istore_n 3, 1) := dk_62 (dk_at dksX0_longest_0 5 rfl rfl)
theorem dX0_longest_6 : decode cX0_longest 6 = .ok (.iload_n 3, 1) := dk_29 (dk_at dksX0_longest_0 6 rfl rfl)
theorem dX0_longest_7 : decode cX0_longest 7 = .ok (.iconst 4, 1) := dk_7 (dk_at dksX0_longest_0 7 rfl rfl)
theorem dX0_longest_8 : decode cX0_longest 8 = .ok (.if_icmp .ge 67, 3) := dk_162 0 67 (dk_at dksX0_longest_0 8 rfl rfl)
theorem dX0_longest_11 : decode cX0_longest 11 = .ok (.aload_n 0, 1) := dk_42 (dk_at dksX0_longest_0 11 rfl rfl)
theorem dX0_longest_12 : decode cX0_longest 12 = .ok (.iload_n 3, 1) := dk_29 (dk_at dksX0_longest_0 12 rfl rfl)
theorem dX0_longest_13 : decode cX0_longest 13 = .ok (.invokevirtual 135, 3) := dk_182 0 135 (dk_at dksX0_longest_0 13 rfl rfl)
theorem dX0_longest_16 : decode cX0_longest 16 = .ok (.istore 4, 2) := dk_54 4 (dk_at dksX0_longest_0 16 rfl rfl)
theorem dX0_longest_18 : decode cX0_longest 18 = .ok (.iconst 0, 1) := dk_3 (dk_at dksX0_longest_0 18 rfl rfl)
theorem dX0_longest_19 : decode cX0_longest 19 = .ok (.istore 5, 2) := dk_54 5 (dk_at dksX0_longest_0 19 rfl rfl)
theorem dX0_longest_21 : decode cX0_longest 21 = .ok (.iload 5, 2) := dk_21 5 (dk_at dksX0_longest_0 21 rfl rfl)
theorem dX0_longest_23 : decode cX0_longest 23 = .ok (.iload 4, 2) := dk_21 4 (dk_at dksX0_longest_1 0 rfl rfl)
theorem dX0_longest_25 : decode cX0_longest 25 = .ok (.if_icmp .ge 44, 3) := dk_162 0 44 (dk_at dksX0_longest_1 2 rfl rfl)
theorem dX0_longest_28 : decode cX0_longest 28 = .ok (.aload_n 0, 1) := dk_42 (dk_at dksX0_longest_1 5 rfl rfl)
theorem dX0_longest_29 : decode cX0_longest 29 = .ok (.getfield 132, 3) := dk_180 0 132 (dk_at dksX0_longest_1 6 rfl rfl)
theorem dX0_longest_32 : decode cX0_longest 32 = .ok (.iload 5, 2) := dk_21 5 (dk_at dksX0_longest_1 9 rfl rfl)
theorem dX0_longest_34 : decode cX0_longest 34 = .ok (.iaload, 1) := dk_46 (dk_at dksX0_longest_1 11 rfl rfl)
theorem dX0_longest_35 : decode cX0_longest 35 = .ok (.iload_n 2, 1) := dk_28 (dk_at dksX0_longest_1 12 rfl rfl)
theorem dX0_longest_36 : decode cX0_longest 36 = .ok (.if_icmp .le 13, 3) := dk_164 0 13 (dk_at dksX0_longest_1 13 rfl rfl)
theorem dX0_longest_39 : decode cX0_longest 39 = .ok (.bipush 100, 2) := dk_16 100 (dk_at dksX0_longest_1 16 rfl rfl)
theorem dX0_longest_41 : decode cX0_longest 41 = .ok (.iload_n 3, 1) := dk_29 (dk_at dksX0_longest_1 18 rfl rfl)
theorem dX0_longest_42 : decode cX0_longest 42 = .ok (.imul, 1) := dk_104 (dk_at dksX0_longest_1 19 rfl rfl)
theorem dX0_longest_43 : decode cX0_longest 43 = .ok (.iload 5, 2) := dk_21 5 (dk_at dksX0_longest_1 20 rfl rfl)
theorem dX0_longest_45 : decode cX0_longest 45 = .ok (.iadd, 1) := dk_96 (dk_at dksX0_longest_1 22 rfl rfl)
theorem dX0_longest_46 : decode cX0_longest 46 = .ok (.goto 4, 3) := dk_167 0 4 (dk_at dksX0_longest_2 0 rfl rfl)
theorem dX0_longest_49 : decode cX0_longest 49 = .ok (.iload_n 1, 1) := dk_27 (dk_at dksX0_longest_2 3 rfl rfl)
theorem dX0_longest_50 : decode cX0_longest 50 = .ok (.istore_n 1, 1) := dk_60 (dk_at dksX0_longest_2 4 rfl rfl)
theorem dX0_longest_51 : decode cX0_longest 51 = .ok (.iload_n 2, 1) := dk_28 (dk_at dksX0_longest_2 5 rfl rfl)
theorem dX0_longest_52 : decode cX0_longest 52 = .ok (.aload_n 0, 1) := dk_42 (dk_at dksX0_longest_2 6 rfl rfl)
theorem dX0_longest_53 : decode cX0_longest 53 = .ok (.getfield 132, 3) := dk_180 0 132 (dk_at dksX0_longest_2 7 rfl rfl)
theorem dX0_longest_56 : decode cX0_longest 56 = .ok (.iload 5, 2) := dk_21 5 (dk_at dksX0_longest_2 10 rfl rfl)
theorem dX0_longest_58 : decode cX0_longest 58 = .ok (.iaload, 1) := dk_46 (dk_at dksX0_longest_2 12 rfl rfl)
theorem dX0_longest_59 : decode cX0_longest 59 = .ok (.invokestatic 7, 3) := dk_184 0 7 (dk_at dksX0_longest_2 13 rfl rfl)
theorem dX0_longest_62 : decode cX0_longest 62 = .ok (.istore_n 2, 1) := dk_61 (dk_at dksX0_longest_2 16 rfl rfl)
theorem dX0_longest_63 : decode cX0_longest 63 = .ok (.iinc 5 1, 3) := dk_132 5 1 (dk_at dksX0_longest_2 17 rfl rfl)
theorem dX0_longest_66 : decode cX0_longest 66 = .ok (.goto (-45), 3) := dk_167 255 211 (dk_at dksX0_longest_2 20 rfl rfl)
theorem dX0_longest_69 : decode cX0_longest 69 = .ok (.iinc 3 1, 3) := dk_132 3 1 (dk_at dksX0_longest_3 0 rfl rfl)
theorem dX0_longest_72 : decode cX0_longest 72 = .ok (.goto (-66), 3) := dk_167 255 190 (dk_at dksX0_longest_3 3 rfl rfl)
theorem dX0_longest_75 : decode cX0_longest 75 = .ok (.iload_n 1, 1) := dk_27 (dk_at dksX0_longest_3 6 rfl rfl)
theorem dX0_longest_76 : decode cX0_longest 76 = .ok (.ireturn, 1) := dk_172 (dk_at dksX0_longest_3 7 rfl rfl)
abbrev cX0_close : ByteArray := prog_1_method_74_code
def yX0_close : MethodName := ⟨RX0, "close", "(I)J"⟩
def dkwX0_close_3 : List UInt8 := [173]
abbrev dktX0_close_3 : List UInt8 := dkwX0_close_3 ++ []
def dkwX0_close_2 : List UInt8 := [184, 0, 14, 153, 0, 7, 28, 154, 0, 9, 20, 1, 205, 167, 0, 11, 29, 133, 28, 133, 27, 184, 1, 207]
abbrev dktX0_close_2 : List UInt8 := dkwX0_close_2 ++ dktX0_close_3
def dkwX0_close_1 : List UInt8 := [42, 180, 0, 65, 21, 4, 46, 184, 0, 72, 96, 62, 132, 4, 1, 167, 255, 224, 27, 133, 9, 10]
abbrev dktX0_close_1 : List UInt8 := dkwX0_close_1 ++ dktX0_close_2
def dkwX0_close_0 : List UInt8 := [3, 61, 3, 62, 3, 54, 4, 21, 4, 7, 162, 0, 32, 28, 42, 180, 0, 61, 21, 4, 46, 96, 61, 29]
abbrev dktX0_close_0 : List UInt8 := dkwX0_close_0 ++ dktX0_close_1
theorem dksX0_close_0 : cX0_close.data.toList.drop 0 = dktX0_close_0 := by decide +kernel
theorem dksX0_close_1 : cX0_close.data.toList.drop 24 = dktX0_close_1 := dk_seg dksX0_close_0 24 rfl rfl
theorem dksX0_close_2 : cX0_close.data.toList.drop 46 = dktX0_close_2 := dk_seg dksX0_close_1 22 rfl rfl
theorem dksX0_close_3 : cX0_close.data.toList.drop 70 = dktX0_close_3 := dk_seg dksX0_close_2 24 rfl rfl
theorem dX0_close_0 : decode cX0_close 0 = .ok (.iconst 0, 1) := dk_3 (dk_at dksX0_close_0 0 rfl rfl)
theorem dX0_close_1 : decode cX0_close 1 = .ok (.istore_n 2, 1) := dk_61 (dk_at dksX0_close_0 1 rfl rfl)
theorem dX0_close_2 : decode cX0_close 2 = .ok (.iconst 0, 1) := dk_3 (dk_at dksX0_close_0 2 rfl rfl)
theorem dX0_close_3 : decode cX0_close 3 = .ok (.istore_n 3, 1) := dk_62 (dk_at dksX0_close_0 3 rfl rfl)
theorem dX0_close_4 : decode cX0_close 4 = .ok (.iconst 0, 1) := dk_3 (dk_at dksX0_close_0 4 rfl rfl)
theorem dX0_close_5 : decode cX0_close 5 = .ok (.istore 4, 2) := dk_54 4 (dk_at dksX0_close_0 5 rfl rfl)
theorem dX0_close_7 : decode cX0_close 7 = .ok (.iload 4, 2) := dk_21 4 (dk_at dksX0_close_0 7 rfl rfl)
theorem dX0_close_9 : decode cX0_close 9 = .ok (.iconst 4, 1) := dk_7 (dk_at dksX0_close_0 9 rfl rfl)
theorem dX0_close_10 : decode cX0_close 10 = .ok (.if_icmp .ge 32, 3) := dk_162 0 32 (dk_at dksX0_close_0 10 rfl rfl)
theorem dX0_close_13 : decode cX0_close 13 = .ok (.iload_n 2, 1) := dk_28 (dk_at dksX0_close_0 13 rfl rfl)
theorem dX0_close_14 : decode cX0_close 14 = .ok (.aload_n 0, 1) := dk_42 (dk_at dksX0_close_0 14 rfl rfl)
theorem dX0_close_15 : decode cX0_close 15 = .ok (.getfield 61, 3) := dk_180 0 61 (dk_at dksX0_close_0 15 rfl rfl)
theorem dX0_close_18 : decode cX0_close 18 = .ok (.iload 4, 2) := dk_21 4 (dk_at dksX0_close_0 18 rfl rfl)
theorem dX0_close_20 : decode cX0_close 20 = .ok (.iaload, 1) := dk_46 (dk_at dksX0_close_0 20 rfl rfl)
theorem dX0_close_21 : decode cX0_close 21 = .ok (.iadd, 1) := dk_96 (dk_at dksX0_close_0 21 rfl rfl)
theorem dX0_close_22 : decode cX0_close 22 = .ok (.istore_n 2, 1) := dk_61 (dk_at dksX0_close_0 22 rfl rfl)
theorem dX0_close_23 : decode cX0_close 23 = .ok (.iload_n 3, 1) := dk_29 (dk_at dksX0_close_0 23 rfl rfl)
theorem dX0_close_24 : decode cX0_close 24 = .ok (.aload_n 0, 1) := dk_42 (dk_at dksX0_close_1 0 rfl rfl)
theorem dX0_close_25 : decode cX0_close 25 = .ok (.getfield 65, 3) := dk_180 0 65 (dk_at dksX0_close_1 1 rfl rfl)
theorem dX0_close_28 : decode cX0_close 28 = .ok (.iload 4, 2) := dk_21 4 (dk_at dksX0_close_1 4 rfl rfl)
theorem dX0_close_30 : decode cX0_close 30 = .ok (.iaload, 1) := dk_46 (dk_at dksX0_close_1 6 rfl rfl)
theorem dX0_close_31 : decode cX0_close 31 = .ok (.invokestatic 72, 3) := dk_184 0 72 (dk_at dksX0_close_1 7 rfl rfl)
theorem dX0_close_34 : decode cX0_close 34 = .ok (.iadd, 1) := dk_96 (dk_at dksX0_close_1 10 rfl rfl)
theorem dX0_close_35 : decode cX0_close 35 = .ok (.istore_n 3, 1) := dk_62 (dk_at dksX0_close_1 11 rfl rfl)
theorem dX0_close_36 : decode cX0_close 36 = .ok (.iinc 4 1, 3) := dk_132 4 1 (dk_at dksX0_close_1 12 rfl rfl)
theorem dX0_close_39 : decode cX0_close 39 = .ok (.goto (-32), 3) := dk_167 255 224 (dk_at dksX0_close_1 15 rfl rfl)
theorem dX0_close_42 : decode cX0_close 42 = .ok (.iload_n 1, 1) := dk_27 (dk_at dksX0_close_1 18 rfl rfl)
theorem dX0_close_43 : decode cX0_close 43 = .ok (.i2l, 1) := dk_133 (dk_at dksX0_close_1 19 rfl rfl)
theorem dX0_close_44 : decode cX0_close 44 = .ok (.lconst 0, 1) := dk_9 (dk_at dksX0_close_1 20 rfl rfl)
theorem dX0_close_45 : decode cX0_close 45 = .ok (.lconst 1, 1) := dk_10 (dk_at dksX0_close_1 21 rfl rfl)
theorem dX0_close_46 : decode cX0_close 46 = .ok (.invokestatic 14, 3) := dk_184 0 14 (dk_at dksX0_close_2 0 rfl rfl)
theorem dX0_close_49 : decode cX0_close 49 = .ok (.ifCond .eq 7, 3) := dk_153 0 7 (dk_at dksX0_close_2 3 rfl rfl)
theorem dX0_close_52 : decode cX0_close 52 = .ok (.iload_n 2, 1) := dk_28 (dk_at dksX0_close_2 6 rfl rfl)
theorem dX0_close_53 : decode cX0_close 53 = .ok (.ifCond .ne 9, 3) := dk_154 0 9 (dk_at dksX0_close_2 7 rfl rfl)
theorem dX0_close_56 : decode cX0_close 56 = .ok (.ldc2_w 461, 3) := dk_20 1 205 (dk_at dksX0_close_2 10 rfl rfl)
theorem dX0_close_59 : decode cX0_close 59 = .ok (.goto 11, 3) := dk_167 0 11 (dk_at dksX0_close_2 13 rfl rfl)
theorem dX0_close_62 : decode cX0_close 62 = .ok (.iload_n 3, 1) := dk_29 (dk_at dksX0_close_2 16 rfl rfl)
theorem dX0_close_63 : decode cX0_close 63 = .ok (.i2l, 1) := dk_133 (dk_at dksX0_close_2 17 rfl rfl)
theorem dX0_close_64 : decode cX0_close 64 = .ok (.iload_n 2, 1) := dk_28 (dk_at dksX0_close_2 18 rfl rfl)
theorem dX0_close_65 : decode cX0_close 65 = .ok (.i2l, 1) := dk_133 (dk_at dksX0_close_2 19 rfl rfl)
theorem dX0_close_66 : decode cX0_close 66 = .ok (.iload_n 1, 1) := dk_27 (dk_at dksX0_close_2 20 rfl rfl)
theorem dX0_close_67 : decode cX0_close 67 = .ok (.invokestatic 463, 3) := dk_184 1 207 (dk_at dksX0_close_2 21 rfl rfl)
theorem dX0_close_70 : decode cX0_close 70 = .ok (.lreturn, 1) := dk_173 (dk_at dksX0_close_3 0 rfl rfl)
abbrev cX0_lowest : ByteArray := prog_1_method_73_code
def yX0_lowest : MethodName := ⟨RX0, "lowest", "(JJI)J"⟩
def dkwX0_lowest_1 : List UInt8 := [22, 9, 55, 7, 167, 255, 234, 21, 4, 154, 0, 7, 30, 167, 0, 4, 32, 22, 5, 109, 173]
abbrev dktX0_lowest_1 : List UInt8 := dkwX0_lowest_1 ++ []
def dkwX0_lowest_0 : List UInt8 := [30, 55, 5, 32, 55, 7, 22, 7, 9, 148, 153, 0, 21, 22, 5, 22, 7, 113, 55, 9, 22, 7, 55, 5]
abbrev dktX0_lowest_0 : List UInt8 := dkwX0_lowest_0 ++ dktX0_lowest_1
theorem dksX0_lowest_0 : cX0_lowest.data.toList.drop 0 = dktX0_lowest_0 := by decide +kernel
theorem dksX0_lowest_1 : cX0_lowest.data.toList.drop 24 = dktX0_lowest_1 := dk_seg dksX0_lowest_0 24 rfl rfl
theorem dX0_lowest_0 : decode cX0_lowest 0 = .ok (.lload_n 0, 1) := dk_30 (dk_at dksX0_lowest_0 0 rfl rfl)
theorem dX0_lowest_1 : decode cX0_lowest 1 = .ok (.lstore 5, 2) := dk_55 5 (dk_at dksX0_lowest_0 1 rfl rfl)
theorem dX0_lowest_3 : decode cX0_lowest 3 = .ok (.lload_n 2, 1) := dk_32 (dk_at dksX0_lowest_0 3 rfl rfl)
theorem dX0_lowest_4 : decode cX0_lowest 4 = .ok (.lstore 7, 2) := dk_55 7 (dk_at dksX0_lowest_0 4 rfl rfl)
theorem dX0_lowest_6 : decode cX0_lowest 6 = .ok (.lload 7, 2) := dk_22 7 (dk_at dksX0_lowest_0 6 rfl rfl)
theorem dX0_lowest_8 : decode cX0_lowest 8 = .ok (.lconst 0, 1) := dk_9 (dk_at dksX0_lowest_0 8 rfl rfl)
theorem dX0_lowest_9 : decode cX0_lowest 9 = .ok (.lcmp, 1) := dk_148 (dk_at dksX0_lowest_0 9 rfl rfl)
theorem dX0_lowest_10 : decode cX0_lowest 10 = .ok (.ifCond .eq 21, 3) := dk_153 0 21 (dk_at dksX0_lowest_0 10 rfl rfl)
theorem dX0_lowest_13 : decode cX0_lowest 13 = .ok (.lload 5, 2) := dk_22 5 (dk_at dksX0_lowest_0 13 rfl rfl)
theorem dX0_lowest_15 : decode cX0_lowest 15 = .ok (.lload 7, 2) := dk_22 7 (dk_at dksX0_lowest_0 15 rfl rfl)
theorem dX0_lowest_17 : decode cX0_lowest 17 = .ok (.lrem, 1) := dk_113 (dk_at dksX0_lowest_0 17 rfl rfl)
theorem dX0_lowest_18 : decode cX0_lowest 18 = .ok (.lstore 9, 2) := dk_55 9 (dk_at dksX0_lowest_0 18 rfl rfl)
theorem dX0_lowest_20 : decode cX0_lowest 20 = .ok (.lload 7, 2) := dk_22 7 (dk_at dksX0_lowest_0 20 rfl rfl)
theorem dX0_lowest_22 : decode cX0_lowest 22 = .ok (.lstore 5, 2) := dk_55 5 (dk_at dksX0_lowest_0 22 rfl rfl)
theorem dX0_lowest_24 : decode cX0_lowest 24 = .ok (.lload 9, 2) := dk_22 9 (dk_at dksX0_lowest_1 0 rfl rfl)
theorem dX0_lowest_26 : decode cX0_lowest 26 = .ok (.lstore 7, 2) := dk_55 7 (dk_at dksX0_lowest_1 2 rfl rfl)
theorem dX0_lowest_28 : decode cX0_lowest 28 = .ok (.goto (-22), 3) := dk_167 255 234 (dk_at dksX0_lowest_1 4 rfl rfl)
theorem dX0_lowest_31 : decode cX0_lowest 31 = .ok (.iload 4, 2) := dk_21 4 (dk_at dksX0_lowest_1 7 rfl rfl)
theorem dX0_lowest_33 : decode cX0_lowest 33 = .ok (.ifCond .ne 7, 3) := dk_154 0 7 (dk_at dksX0_lowest_1 9 rfl rfl)
theorem dX0_lowest_36 : decode cX0_lowest 36 = .ok (.lload_n 0, 1) := dk_30 (dk_at dksX0_lowest_1 12 rfl rfl)
theorem dX0_lowest_37 : decode cX0_lowest 37 = .ok (.goto 4, 3) := dk_167 0 4 (dk_at dksX0_lowest_1 13 rfl rfl)
theorem dX0_lowest_40 : decode cX0_lowest 40 = .ok (.lload_n 2, 1) := dk_32 (dk_at dksX0_lowest_1 16 rfl rfl)
theorem dX0_lowest_41 : decode cX0_lowest 41 = .ok (.lload 5, 2) := dk_22 5 (dk_at dksX0_lowest_1 17 rfl rfl)
theorem dX0_lowest_43 : decode cX0_lowest 43 = .ok (.ldiv, 1) := dk_109 (dk_at dksX0_lowest_1 19 rfl rfl)
theorem dX0_lowest_44 : decode cX0_lowest 44 = .ok (.lreturn, 1) := dk_173 (dk_at dksX0_lowest_1 20 rfl rfl)
abbrev cX0_tells : ByteArray := prog_1_method_84_code
def yX0_tells : MethodName := ⟨RX0, "tells", "(IIII)I"⟩
def dkwX0_tells_8 : List UInt8 := [172]
abbrev dktX0_tells_8 : List UInt8 := dkwX0_tells_8 ++ []
def dkwX0_tells_7 : List UInt8 := [42, 25, 5, 28, 29, 182, 2, 0, 172, 42, 25, 5, 29, 182, 2, 3, 172, 42, 25, 5, 28, 182, 2, 6]
abbrev dktX0_tells_7 : List UInt8 := dkwX0_tells_7 ++ dktX0_tells_8
def dkwX0_tells_6 : List UInt8 := [182, 1, 249, 172, 42, 25, 5, 28, 29, 21, 4, 7, 160, 0, 7, 4, 167, 0, 4, 3, 182, 1, 252, 172]
abbrev dktX0_tells_6 : List UInt8 := dkwX0_tells_6 ++ dktX0_tells_7
def dkwX0_tells_5 : List UInt8 := [42, 25, 5, 28, 29, 182, 1, 227, 172, 42, 25, 5, 28, 29, 182, 1, 246, 172, 42, 25, 5, 28, 29]
abbrev dktX0_tells_5 : List UInt8 := dkwX0_tells_5 ++ dktX0_tells_6
def dkwX0_tells_4 : List UInt8 := [170, 0, 0, 0, 0, 0, 0, 108, 0, 0, 0, 0, 0, 0, 0, 6, 0, 0, 0, 44, 0, 0, 0, 53, 0, 0, 0, 62, 0, 0, 0, 71, 0, 0, 0, 71, 0, 0, 0, 91, 0, 0, 0, 100]
abbrev dktX0_tells_4 : List UInt8 := dkwX0_tells_4 ++ dktX0_tells_5
def dkwX0_tells_3 : List UInt8 := [182, 0, 109, 164, 0, 6, 16, 254, 172, 21, 4]
abbrev dktX0_tells_3 : List UInt8 := dkwX0_tells_3 ++ dktX0_tells_4
def dkwX0_tells_2 : List UInt8 := [58, 5, 25, 5, 199, 0, 6, 16, 245, 172, 25, 5, 25, 5, 184, 1, 211, 184, 1, 215, 42, 29]
abbrev dktX0_tells_2 : List UInt8 := dkwX0_tells_2 ++ dktX0_tells_3
def dkwX0_tells_1 : List UInt8 := [133, 9, 20, 1, 241, 184, 0, 14, 154, 0, 6, 16, 254, 172, 42, 180, 1, 86, 27, 50, 180, 1, 243]
abbrev dktX0_tells_1 : List UInt8 := dkwX0_tells_1 ++ dktX0_tells_2
def dkwX0_tells_0 : List UInt8 := [27, 184, 1, 238, 153, 0, 31, 42, 28, 182, 0, 79, 153, 0, 23, 29, 184, 0, 55, 153, 0, 16, 21, 4]
abbrev dktX0_tells_0 : List UInt8 := dkwX0_tells_0 ++ dktX0_tells_1
theorem dksX0_tells_0 : cX0_tells.data.toList.drop 0 = dktX0_tells_0 := by decide +kernel
theorem dksX0_tells_1 : cX0_tells.data.toList.drop 24 = dktX0_tells_1 := dk_seg dksX0_tells_0 24 rfl rfl
theorem dksX0_tells_2 : cX0_tells.data.toList.drop 47 = dktX0_tells_2 := dk_seg dksX0_tells_1 23 rfl rfl
theorem dksX0_tells_3 : cX0_tells.data.toList.drop 69 = dktX0_tells_3 := dk_seg dksX0_tells_2 22 rfl rfl
theorem dksX0_tells_4 : cX0_tells.data.toList.drop 80 = dktX0_tells_4 := dk_seg dksX0_tells_3 11 rfl rfl
theorem dksX0_tells_5 : cX0_tells.data.toList.drop 124 = dktX0_tells_5 := dk_seg dksX0_tells_4 44 rfl rfl
theorem dksX0_tells_6 : cX0_tells.data.toList.drop 147 = dktX0_tells_6 := dk_seg dksX0_tells_5 23 rfl rfl
theorem dksX0_tells_7 : cX0_tells.data.toList.drop 171 = dktX0_tells_7 := dk_seg dksX0_tells_6 24 rfl rfl
theorem dksX0_tells_8 : cX0_tells.data.toList.drop 195 = dktX0_tells_8 := dk_seg dksX0_tells_7 24 rfl rfl
theorem dX0_tells_0 : decode cX0_tells 0 = .ok (.iload_n 1, 1) := dk_27 (dk_at dksX0_tells_0 0 rfl rfl)
theorem dX0_tells_1 : decode cX0_tells 1 = .ok (.invokestatic 494, 3) := dk_184 1 238 (dk_at dksX0_tells_0 1 rfl rfl)
theorem dX0_tells_4 : decode cX0_tells 4 = .ok (.ifCond .eq 31, 3) := dk_153 0 31 (dk_at dksX0_tells_0 4 rfl rfl)
theorem dX0_tells_7 : decode cX0_tells 7 = .ok (.aload_n 0, 1) := dk_42 (dk_at dksX0_tells_0 7 rfl rfl)
theorem dX0_tells_8 : decode cX0_tells 8 = .ok (.iload_n 2, 1) := dk_28 (dk_at dksX0_tells_0 8 rfl rfl)
theorem dX0_tells_9 : decode cX0_tells 9 = .ok (.invokevirtual 79, 3) := dk_182 0 79 (dk_at dksX0_tells_0 9 rfl rfl)
theorem dX0_tells_12 : decode cX0_tells 12 = .ok (.ifCond .eq 23, 3) := dk_153 0 23 (dk_at dksX0_tells_0 12 rfl rfl)
theorem dX0_tells_15 : decode cX0_tells 15 = .ok (.iload_n 3, 1) := dk_29 (dk_at dksX0_tells_0 15 rfl rfl)
theorem dX0_tells_16 : decode cX0_tells 16 = .ok (.invokestatic 55, 3) := dk_184 0 55 (dk_at dksX0_tells_0 16 rfl rfl)
theorem dX0_tells_19 : decode cX0_tells 19 = .ok (.ifCond .eq 16, 3) := dk_153 0 16 (dk_at dksX0_tells_0 19 rfl rfl)
theorem dX0_tells_22 : decode cX0_tells 22 = .ok (.iload 4, 2) := dk_21 4 (dk_at dksX0_tells_0 22 rfl rfl)
theorem dX0_tells_24 : decode cX0_tells 24 = .ok (.i2l, 1) := dk_133 (dk_at dksX0_tells_1 0 rfl rfl)
theorem dX0_tells_25 : decode cX0_tells 25 = .ok (.lconst 0, 1) := dk_9 (dk_at dksX0_tells_1 1 rfl rfl)
theorem dX0_tells_26 : decode cX0_tells 26 = .ok (.ldc2_w 497, 3) := dk_20 1 241 (dk_at dksX0_tells_1 2 rfl rfl)
theorem dX0_tells_29 : decode cX0_tells 29 = .ok (.invokestatic 14, 3) := dk_184 0 14 (dk_at dksX0_tells_1 5 rfl rfl)
theorem dX0_tells_32 : decode cX0_tells 32 = .ok (.ifCond .ne 6, 3) := dk_154 0 6 (dk_at dksX0_tells_1 8 rfl rfl)
theorem dX0_tells_35 : decode cX0_tells 35 = .ok (.bipush (-2), 2) := dk_16 254 (dk_at dksX0_tells_1 11 rfl rfl)
theorem dX0_tells_37 : decode cX0_tells 37 = .ok (.ireturn, 1) := dk_172 (dk_at dksX0_tells_1 13 rfl rfl)
theorem dX0_tells_38 : decode cX0_tells 38 = .ok (.aload_n 0, 1) := dk_42 (dk_at dksX0_tells_1 14 rfl rfl)
theorem dX0_tells_39 : decode cX0_tells 39 = .ok (.getfield 342, 3) := dk_180 1 86 (dk_at dksX0_tells_1 15 rfl rfl)
theorem dX0_tells_42 : decode cX0_tells 42 = .ok (.iload_n 1, 1) := dk_27 (dk_at dksX0_tells_1 18 rfl rfl)
theorem dX0_tells_43 : decode cX0_tells 43 = .ok (.aaload, 1) := dk_50 (dk_at dksX0_tells_1 19 rfl rfl)
theorem dX0_tells_44 : decode cX0_tells 44 = .ok (.getfield 499, 3) := dk_180 1 243 (dk_at dksX0_tells_1 20 rfl rfl)
theorem dX0_tells_47 : decode cX0_tells 47 = .ok (.astore 5, 2) := dk_58 5 (dk_at dksX0_tells_2 0 rfl rfl)
theorem dX0_tells_49 : decode cX0_tells 49 = .ok (.aload 5, 2) := dk_25 5 (dk_at dksX0_tells_2 2 rfl rfl)
theorem dX0_tells_51 : decode cX0_tells 51 = .ok (.ifnonnull 6, 3) := dk_199 0 6 (dk_at dksX0_tells_2 4 rfl rfl)
theorem dX0_tells_54 : decode cX0_tells 54 = .ok (.bipush (-11), 2) := dk_16 245 (dk_at dksX0_tells_2 7 rfl rfl)
theorem dX0_tells_56 : decode cX0_tells 56 = .ok (.ireturn, 1) := dk_172 (dk_at dksX0_tells_2 9 rfl rfl)
theorem dX0_tells_57 : decode cX0_tells 57 = .ok (.aload 5, 2) := dk_25 5 (dk_at dksX0_tells_2 10 rfl rfl)
theorem dX0_tells_59 : decode cX0_tells 59 = .ok (.aload 5, 2) := dk_25 5 (dk_at dksX0_tells_2 12 rfl rfl)
theorem dX0_tells_61 : decode cX0_tells 61 = .ok (.invokestatic 467, 3) := dk_184 1 211 (dk_at dksX0_tells_2 14 rfl rfl)
theorem dX0_tells_64 : decode cX0_tells 64 = .ok (.invokestatic 471, 3) := dk_184 1 215 (dk_at dksX0_tells_2 17 rfl rfl)
theorem dX0_tells_67 : decode cX0_tells 67 = .ok (.aload_n 0, 1) := dk_42 (dk_at dksX0_tells_2 20 rfl rfl)
theorem dX0_tells_68 : decode cX0_tells 68 = .ok (.iload_n 3, 1) := dk_29 (dk_at dksX0_tells_2 21 rfl rfl)
theorem dX0_tells_69 : decode cX0_tells 69 = .ok (.invokevirtual 109, 3) := dk_182 0 109 (dk_at dksX0_tells_3 0 rfl rfl)
theorem dX0_tells_72 : decode cX0_tells 72 = .ok (.if_icmp .le 6, 3) := dk_164 0 6 (dk_at dksX0_tells_3 3 rfl rfl)
theorem dX0_tells_75 : decode cX0_tells 75 = .ok (.bipush (-2), 2) := dk_16 254 (dk_at dksX0_tells_3 6 rfl rfl)
theorem dX0_tells_77 : decode cX0_tells 77 = .ok (.ireturn, 1) := dk_172 (dk_at dksX0_tells_3 8 rfl rfl)
theorem dX0_tells_78 : decode cX0_tells 78 = .ok (.iload 4, 2) := dk_21 4 (dk_at dksX0_tells_3 9 rfl rfl)
theorem dX0_tells_80 : decode cX0_tells 80 = .ok (.tableswitch 108 0 6 #[44, 53, 62, 71, 71, 91, 100], 44) := by decide +kernel
theorem dX0_tells_124 : decode cX0_tells 124 = .ok (.aload_n 0, 1) := dk_42 (dk_at dksX0_tells_5 0 rfl rfl)
theorem dX0_tells_125 : decode cX0_tells 125 = .ok (.aload 5, 2) := dk_25 5 (dk_at dksX0_tells_5 1 rfl rfl)
theorem dX0_tells_127 : decode cX0_tells 127 = .ok (.iload_n 2, 1) := dk_28 (dk_at dksX0_tells_5 3 rfl rfl)
theorem dX0_tells_128 : decode cX0_tells 128 = .ok (.iload_n 3, 1) := dk_29 (dk_at dksX0_tells_5 4 rfl rfl)
theorem dX0_tells_129 : decode cX0_tells 129 = .ok (.invokevirtual 483, 3) := dk_182 1 227 (dk_at dksX0_tells_5 5 rfl rfl)
theorem dX0_tells_132 : decode cX0_tells 132 = .ok (.ireturn, 1) := dk_172 (dk_at dksX0_tells_5 8 rfl rfl)
theorem dX0_tells_133 : decode cX0_tells 133 = .ok (.aload_n 0, 1) := dk_42 (dk_at dksX0_tells_5 9 rfl rfl)
theorem dX0_tells_134 : decode cX0_tells 134 = .ok (.aload 5, 2) := dk_25 5 (dk_at dksX0_tells_5 10 rfl rfl)
theorem dX0_tells_136 : decode cX0_tells 136 = .ok (.iload_n 2, 1) := dk_28 (dk_at dksX0_tells_5 12 rfl rfl)
theorem dX0_tells_137 : decode cX0_tells 137 = .ok (.iload_n 3, 1) := dk_29 (dk_at dksX0_tells_5 13 rfl rfl)
theorem dX0_tells_138 : decode cX0_tells 138 = .ok (.invokevirtual 502, 3) := dk_182 1 246 (dk_at dksX0_tells_5 14 rfl rfl)
theorem dX0_tells_141 : decode cX0_tells 141 = .ok (.ireturn, 1) := dk_172 (dk_at dksX0_tells_5 17 rfl rfl)
theorem dX0_tells_142 : decode cX0_tells 142 = .ok (.aload_n 0, 1) := dk_42 (dk_at dksX0_tells_5 18 rfl rfl)
theorem dX0_tells_143 : decode cX0_tells 143 = .ok (.aload 5, 2) := dk_25 5 (dk_at dksX0_tells_5 19 rfl rfl)
theorem dX0_tells_145 : decode cX0_tells 145 = .ok (.iload_n 2, 1) := dk_28 (dk_at dksX0_tells_5 21 rfl rfl)
theorem dX0_tells_146 : decode cX0_tells 146 = .ok (.iload_n 3, 1) := dk_29 (dk_at dksX0_tells_5 22 rfl rfl)
theorem dX0_tells_147 : decode cX0_tells 147 = .ok (.invokevirtual 505, 3) := dk_182 1 249 (dk_at dksX0_tells_6 0 rfl rfl)
theorem dX0_tells_150 : decode cX0_tells 150 = .ok (.ireturn, 1) := dk_172 (dk_at dksX0_tells_6 3 rfl rfl)
theorem dX0_tells_151 : decode cX0_tells 151 = .ok (.aload_n 0, 1) := dk_42 (dk_at dksX0_tells_6 4 rfl rfl)
theorem dX0_tells_152 : decode cX0_tells 152 = .ok (.aload 5, 2) := dk_25 5 (dk_at dksX0_tells_6 5 rfl rfl)
theorem dX0_tells_154 : decode cX0_tells 154 = .ok (.iload_n 2, 1) := dk_28 (dk_at dksX0_tells_6 7 rfl rfl)
theorem dX0_tells_155 : decode cX0_tells 155 = .ok (.iload_n 3, 1) := dk_29 (dk_at dksX0_tells_6 8 rfl rfl)
theorem dX0_tells_156 : decode cX0_tells 156 = .ok (.iload 4, 2) := dk_21 4 (dk_at dksX0_tells_6 9 rfl rfl)
theorem dX0_tells_158 : decode cX0_tells 158 = .ok (.iconst 4, 1) := dk_7 (dk_at dksX0_tells_6 11 rfl rfl)
theorem dX0_tells_159 : decode cX0_tells 159 = .ok (.if_icmp .ne 7, 3) := dk_160 0 7 (dk_at dksX0_tells_6 12 rfl rfl)
theorem dX0_tells_162 : decode cX0_tells 162 = .ok (.iconst 1, 1) := dk_4 (dk_at dksX0_tells_6 15 rfl rfl)
theorem dX0_tells_163 : decode cX0_tells 163 = .ok (.goto 4, 3) := dk_167 0 4 (dk_at dksX0_tells_6 16 rfl rfl)
theorem dX0_tells_166 : decode cX0_tells 166 = .ok (.iconst 0, 1) := dk_3 (dk_at dksX0_tells_6 19 rfl rfl)
theorem dX0_tells_167 : decode cX0_tells 167 = .ok (.invokevirtual 508, 3) := dk_182 1 252 (dk_at dksX0_tells_6 20 rfl rfl)
theorem dX0_tells_170 : decode cX0_tells 170 = .ok (.ireturn, 1) := dk_172 (dk_at dksX0_tells_6 23 rfl rfl)
theorem dX0_tells_171 : decode cX0_tells 171 = .ok (.aload_n 0, 1) := dk_42 (dk_at dksX0_tells_7 0 rfl rfl)
theorem dX0_tells_172 : decode cX0_tells 172 = .ok (.aload 5, 2) := dk_25 5 (dk_at dksX0_tells_7 1 rfl rfl)
theorem dX0_tells_174 : decode cX0_tells 174 = .ok (.iload_n 2, 1) := dk_28 (dk_at dksX0_tells_7 3 rfl rfl)
theorem dX0_tells_175 : decode cX0_tells 175 = .ok (.iload_n 3, 1) := dk_29 (dk_at dksX0_tells_7 4 rfl rfl)
theorem dX0_tells_176 : decode cX0_tells 176 = .ok (.invokevirtual 512, 3) := dk_182 2 0 (dk_at dksX0_tells_7 5 rfl rfl)
theorem dX0_tells_179 : decode cX0_tells 179 = .ok (.ireturn, 1) := dk_172 (dk_at dksX0_tells_7 8 rfl rfl)
theorem dX0_tells_180 : decode cX0_tells 180 = .ok (.aload_n 0, 1) := dk_42 (dk_at dksX0_tells_7 9 rfl rfl)
theorem dX0_tells_181 : decode cX0_tells 181 = .ok (.aload 5, 2) := dk_25 5 (dk_at dksX0_tells_7 10 rfl rfl)
theorem dX0_tells_183 : decode cX0_tells 183 = .ok (.iload_n 3, 1) := dk_29 (dk_at dksX0_tells_7 12 rfl rfl)
theorem dX0_tells_184 : decode cX0_tells 184 = .ok (.invokevirtual 515, 3) := dk_182 2 3 (dk_at dksX0_tells_7 13 rfl rfl)
theorem dX0_tells_187 : decode cX0_tells 187 = .ok (.ireturn, 1) := dk_172 (dk_at dksX0_tells_7 16 rfl rfl)
theorem dX0_tells_188 : decode cX0_tells 188 = .ok (.aload_n 0, 1) := dk_42 (dk_at dksX0_tells_7 17 rfl rfl)
theorem dX0_tells_189 : decode cX0_tells 189 = .ok (.aload 5, 2) := dk_25 5 (dk_at dksX0_tells_7 18 rfl rfl)
theorem dX0_tells_191 : decode cX0_tells 191 = .ok (.iload_n 2, 1) := dk_28 (dk_at dksX0_tells_7 20 rfl rfl)
theorem dX0_tells_192 : decode cX0_tells 192 = .ok (.invokevirtual 518, 3) := dk_182 2 6 (dk_at dksX0_tells_7 21 rfl rfl)
theorem dX0_tells_195 : decode cX0_tells 195 = .ok (.ireturn, 1) := dk_172 (dk_at dksX0_tells_8 0 rfl rfl)
abbrev cX0_isSheet : ByteArray := prog_1_method_92_code
def yX0_isSheet : MethodName := ⟨RX0, "isSheet", "(I)Z"⟩
def dkwX0_isSheet_0 : List UInt8 := [26, 133, 9, 20, 0, 12, 184, 0, 14, 172]
abbrev dktX0_isSheet_0 : List UInt8 := dkwX0_isSheet_0 ++ []
theorem dksX0_isSheet_0 : cX0_isSheet.data.toList.drop 0 = dktX0_isSheet_0 := by decide +kernel
theorem dX0_isSheet_0 : decode cX0_isSheet 0 = .ok (.iload_n 0, 1) := dk_26 (dk_at dksX0_isSheet_0 0 rfl rfl)
theorem dX0_isSheet_1 : decode cX0_isSheet 1 = .ok (.i2l, 1) := dk_133 (dk_at dksX0_isSheet_0 1 rfl rfl)
theorem dX0_isSheet_2 : decode cX0_isSheet 2 = .ok (.lconst 0, 1) := dk_9 (dk_at dksX0_isSheet_0 2 rfl rfl)
theorem dX0_isSheet_3 : decode cX0_isSheet 3 = .ok (.ldc2_w 12, 3) := dk_20 0 12 (dk_at dksX0_isSheet_0 3 rfl rfl)
theorem dX0_isSheet_6 : decode cX0_isSheet 6 = .ok (.invokestatic 14, 3) := dk_184 0 14 (dk_at dksX0_isSheet_0 6 rfl rfl)
theorem dX0_isSheet_9 : decode cX0_isSheet 9 = .ok (.ireturn, 1) := dk_172 (dk_at dksX0_isSheet_0 9 rfl rfl)
abbrev cX0_sortOf : ByteArray := prog_1_method_100_code
def yX0_sortOf : MethodName := ⟨RX0, "sortOf", "(Ljava/lang/Object;)I"⟩
def dkwX0_sortOf_0 : List UInt8 := [42, 193, 2, 32, 153, 0, 7, 3, 167, 0, 15, 42, 193, 2, 36, 153, 0, 7, 4, 167, 0, 4, 5, 172]
abbrev dktX0_sortOf_0 : List UInt8 := dkwX0_sortOf_0 ++ []
theorem dksX0_sortOf_0 : cX0_sortOf.data.toList.drop 0 = dktX0_sortOf_0 := by decide +kernel
theorem dX0_sortOf_0 : decode cX0_sortOf 0 = .ok (.aload_n 0, 1) := dk_42 (dk_at dksX0_sortOf_0 0 rfl rfl)
theorem dX0_sortOf_1 : decode cX0_sortOf 1 = .ok (.instanceof 544, 3) := dk_193 2 32 (dk_at dksX0_sortOf_0 1 rfl rfl)
theorem dX0_sortOf_4 : decode cX0_sortOf 4 = .ok (.ifCond .eq 7, 3) := dk_153 0 7 (dk_at dksX0_sortOf_0 4 rfl rfl)
theorem dX0_sortOf_7 : decode cX0_sortOf 7 = .ok (.iconst 0, 1) := dk_3 (dk_at dksX0_sortOf_0 7 rfl rfl)
theorem dX0_sortOf_8 : decode cX0_sortOf 8 = .ok (.goto 15, 3) := dk_167 0 15 (dk_at dksX0_sortOf_0 8 rfl rfl)
theorem dX0_sortOf_11 : decode cX0_sortOf 11 = .ok (.aload_n 0, 1) := dk_42 (dk_at dksX0_sortOf_0 11 rfl rfl)
theorem dX0_sortOf_12 : decode cX0_sortOf 12 = .ok (.instanceof 548, 3) := dk_193 2 36 (dk_at dksX0_sortOf_0 12 rfl rfl)
theorem dX0_sortOf_15 : decode cX0_sortOf 15 = .ok (.ifCond .eq 7, 3) := dk_153 0 7 (dk_at dksX0_sortOf_0 15 rfl rfl)
theorem dX0_sortOf_18 : decode cX0_sortOf 18 = .ok (.iconst 1, 1) := dk_4 (dk_at dksX0_sortOf_0 18 rfl rfl)
theorem dX0_sortOf_19 : decode cX0_sortOf 19 = .ok (.goto 4, 3) := dk_167 0 4 (dk_at dksX0_sortOf_0 19 rfl rfl)
theorem dX0_sortOf_22 : decode cX0_sortOf 22 = .ok (.iconst 2, 1) := dk_5 (dk_at dksX0_sortOf_0 22 rfl rfl)
theorem dX0_sortOf_23 : decode cX0_sortOf 23 = .ok (.ireturn, 1) := dk_172 (dk_at dksX0_sortOf_0 23 rfl rfl)
abbrev cX0_lengthOf : ByteArray := prog_1_method_98_code
def yX0_lengthOf : MethodName := ⟨RX0, "lengthOf", "(Ljava/lang/Object;I)I"⟩
def dkwX0_lengthOf_2 : List UInt8 := [42, 192, 2, 32, 190, 172, 42, 192, 2, 36, 190, 172, 42, 192, 2, 38, 190, 172]
abbrev dktX0_lengthOf_2 : List UInt8 := dkwX0_lengthOf_2 ++ []
def dkwX0_lengthOf_1 : List UInt8 := [171, 0, 0, 0, 0, 0, 39, 0, 0, 0, 2, 0, 0, 0, 0, 0, 0, 0, 27, 0, 0, 0, 1, 0, 0, 0, 33]
abbrev dktX0_lengthOf_1 : List UInt8 := dkwX0_lengthOf_1 ++ dktX0_lengthOf_2
def dkwX0_lengthOf_0 : List UInt8 := [27]
abbrev dktX0_lengthOf_0 : List UInt8 := dkwX0_lengthOf_0 ++ dktX0_lengthOf_1
theorem dksX0_lengthOf_0 : cX0_lengthOf.data.toList.drop 0 = dktX0_lengthOf_0 := by decide +kernel
theorem dksX0_lengthOf_1 : cX0_lengthOf.data.toList.drop 1 = dktX0_lengthOf_1 := dk_seg dksX0_lengthOf_0 1 rfl rfl
theorem dksX0_lengthOf_2 : cX0_lengthOf.data.toList.drop 28 = dktX0_lengthOf_2 := dk_seg dksX0_lengthOf_1 27 rfl rfl
theorem dX0_lengthOf_0 : decode cX0_lengthOf 0 = .ok (.iload_n 1, 1) := dk_27 (dk_at dksX0_lengthOf_0 0 rfl rfl)
theorem dX0_lengthOf_1 : decode cX0_lengthOf 1 = .ok (.lookupswitch 39 #[(0, 27), (1, 33)], 27) := by decide +kernel
theorem dX0_lengthOf_28 : decode cX0_lengthOf 28 = .ok (.aload_n 0, 1) := dk_42 (dk_at dksX0_lengthOf_2 0 rfl rfl)
theorem dX0_lengthOf_29 : decode cX0_lengthOf 29 = .ok (.checkcast 544, 3) := dk_192 2 32 (dk_at dksX0_lengthOf_2 1 rfl rfl)
theorem dX0_lengthOf_32 : decode cX0_lengthOf 32 = .ok (.arraylength, 1) := dk_190 (dk_at dksX0_lengthOf_2 4 rfl rfl)
theorem dX0_lengthOf_33 : decode cX0_lengthOf 33 = .ok (.ireturn, 1) := dk_172 (dk_at dksX0_lengthOf_2 5 rfl rfl)
theorem dX0_lengthOf_34 : decode cX0_lengthOf 34 = .ok (.aload_n 0, 1) := dk_42 (dk_at dksX0_lengthOf_2 6 rfl rfl)
theorem dX0_lengthOf_35 : decode cX0_lengthOf 35 = .ok (.checkcast 548, 3) := dk_192 2 36 (dk_at dksX0_lengthOf_2 7 rfl rfl)
theorem dX0_lengthOf_38 : decode cX0_lengthOf 38 = .ok (.arraylength, 1) := dk_190 (dk_at dksX0_lengthOf_2 10 rfl rfl)
theorem dX0_lengthOf_39 : decode cX0_lengthOf 39 = .ok (.ireturn, 1) := dk_172 (dk_at dksX0_lengthOf_2 11 rfl rfl)
theorem dX0_lengthOf_40 : decode cX0_lengthOf 40 = .ok (.aload_n 0, 1) := dk_42 (dk_at dksX0_lengthOf_2 12 rfl rfl)
theorem dX0_lengthOf_41 : decode cX0_lengthOf 41 = .ok (.checkcast 550, 3) := dk_192 2 38 (dk_at dksX0_lengthOf_2 13 rfl rfl)
theorem dX0_lengthOf_44 : decode cX0_lengthOf 44 = .ok (.arraylength, 1) := dk_190 (dk_at dksX0_lengthOf_2 16 rfl rfl)
theorem dX0_lengthOf_45 : decode cX0_lengthOf 45 = .ok (.ireturn, 1) := dk_172 (dk_at dksX0_lengthOf_2 17 rfl rfl)
abbrev cX0_otherwise : ByteArray := prog_1_method_75_code
def yX0_otherwise : MethodName := ⟨RX0, "otherwise", "(Ljava/lang/Object;II)I"⟩
def dkwX0_otherwise_3 : List UInt8 := [42, 3, 182, 1, 169, 21, 4, 172, 58, 6, 42, 3, 182, 1, 169, 25, 6, 191]
abbrev dktX0_otherwise_3 : List UInt8 := dkwX0_otherwise_3 ++ []
def dkwX0_otherwise_2 : List UInt8 := [159, 0, 15, 21, 4, 54, 5, 42, 3, 182, 1, 169, 21, 5, 172, 132, 4, 1, 167, 255, 208, 2, 54, 4]
abbrev dktX0_otherwise_2 : List UInt8 := dkwX0_otherwise_2 ++ dktX0_otherwise_3
def dkwX0_otherwise_1 : List UInt8 := [184, 1, 215, 162, 0, 41, 43, 43, 184, 1, 211, 21, 4, 184, 1, 219, 42, 180, 1, 55, 21, 4, 46]
abbrev dktX0_otherwise_1 : List UInt8 := dkwX0_otherwise_1 ++ dktX0_otherwise_2
def dkwX0_otherwise_0 : List UInt8 := [42, 3, 182, 1, 167, 42, 28, 29, 182, 1, 149, 87, 3, 54, 4, 21, 4, 43, 43, 184, 1, 211]
abbrev dktX0_otherwise_0 : List UInt8 := dkwX0_otherwise_0 ++ dktX0_otherwise_1
theorem dksX0_otherwise_0 : cX0_otherwise.data.toList.drop 0 = dktX0_otherwise_0 := by decide +kernel
theorem dksX0_otherwise_1 : cX0_otherwise.data.toList.drop 22 = dktX0_otherwise_1 := dk_seg dksX0_otherwise_0 22 rfl rfl
theorem dksX0_otherwise_2 : cX0_otherwise.data.toList.drop 45 = dktX0_otherwise_2 := dk_seg dksX0_otherwise_1 23 rfl rfl
theorem dksX0_otherwise_3 : cX0_otherwise.data.toList.drop 69 = dktX0_otherwise_3 := dk_seg dksX0_otherwise_2 24 rfl rfl
theorem dX0_otherwise_0 : decode cX0_otherwise 0 = .ok (.aload_n 0, 1) := dk_42 (dk_at dksX0_otherwise_0 0 rfl rfl)
theorem dX0_otherwise_1 : decode cX0_otherwise 1 = .ok (.iconst 0, 1) := dk_3 (dk_at dksX0_otherwise_0 1 rfl rfl)
theorem dX0_otherwise_2 : decode cX0_otherwise 2 = .ok (.invokevirtual 423, 3) := dk_182 1 167 (dk_at dksX0_otherwise_0 2 rfl rfl)
theorem dX0_otherwise_5 : decode cX0_otherwise 5 = .ok (.aload_n 0, 1) := dk_42 (dk_at dksX0_otherwise_0 5 rfl rfl)
theorem dX0_otherwise_6 : decode cX0_otherwise 6 = .ok (.iload_n 2, 1) := dk_28 (dk_at dksX0_otherwise_0 6 rfl rfl)
theorem dX0_otherwise_7 : decode cX0_otherwise 7 = .ok (.iload_n 3, 1) := dk_29 (dk_at dksX0_otherwise_0 7 rfl rfl)
theorem dX0_otherwise_8 : decode cX0_otherwise 8 = .ok (.invokevirtual 405, 3) := dk_182 1 149 (dk_at dksX0_otherwise_0 8 rfl rfl)
theorem dX0_otherwise_11 : decode cX0_otherwise 11 = .ok (.pop, 1) := dk_87 (dk_at dksX0_otherwise_0 11 rfl rfl)
theorem dX0_otherwise_12 : decode cX0_otherwise 12 = .ok (.iconst 0, 1) := dk_3 (dk_at dksX0_otherwise_0 12 rfl rfl)
theorem dX0_otherwise_13 : decode cX0_otherwise 13 = .ok (.istore 4, 2) := dk_54 4 (dk_at dksX0_otherwise_0 13 rfl rfl)
theorem dX0_otherwise_15 : decode cX0_otherwise 15 = .ok (.iload 4, 2) := dk_21 4 (dk_at dksX0_otherwise_0 15 rfl rfl)
theorem dX0_otherwise_17 : decode cX0_otherwise 17 = .ok (.aload_n 1, 1) := dk_43 (dk_at dksX0_otherwise_0 17 rfl rfl)
theorem dX0_otherwise_18 : decode cX0_otherwise 18 = .ok (.aload_n 1, 1) := dk_43 (dk_at dksX0_otherwise_0 18 rfl rfl)
theorem dX0_otherwise_19 : decode cX0_otherwise 19 = .ok (.invokestatic 467, 3) := dk_184 1 211 (dk_at dksX0_otherwise_0 19 rfl rfl)
theorem dX0_otherwise_22 : decode cX0_otherwise 22 = .ok (.invokestatic 471, 3) := dk_184 1 215 (dk_at dksX0_otherwise_1 0 rfl rfl)
theorem dX0_otherwise_25 : decode cX0_otherwise 25 = .ok (.if_icmp .ge 41, 3) := dk_162 0 41 (dk_at dksX0_otherwise_1 3 rfl rfl)
theorem dX0_otherwise_28 : decode cX0_otherwise 28 = .ok (.aload_n 1, 1) := dk_43 (dk_at dksX0_otherwise_1 6 rfl rfl)
theorem dX0_otherwise_29 : decode cX0_otherwise 29 = .ok (.aload_n 1, 1) := dk_43 (dk_at dksX0_otherwise_1 7 rfl rfl)
theorem dX0_otherwise_30 : decode cX0_otherwise 30 = .ok (.invokestatic 467, 3) := dk_184 1 211 (dk_at dksX0_otherwise_1 8 rfl rfl)
theorem dX0_otherwise_33 : decode cX0_otherwise 33 = .ok (.iload 4, 2) := dk_21 4 (dk_at dksX0_otherwise_1 11 rfl rfl)
theorem dX0_otherwise_35 : decode cX0_otherwise 35 = .ok (.invokestatic 475, 3) := dk_184 1 219 (dk_at dksX0_otherwise_1 13 rfl rfl)
theorem dX0_otherwise_38 : decode cX0_otherwise 38 = .ok (.aload_n 0, 1) := dk_42 (dk_at dksX0_otherwise_1 16 rfl rfl)
theorem dX0_otherwise_39 : decode cX0_otherwise 39 = .ok (.getfield 311, 3) := dk_180 1 55 (dk_at dksX0_otherwise_1 17 rfl rfl)
theorem dX0_otherwise_42 : decode cX0_otherwise 42 = .ok (.iload 4, 2) := dk_21 4 (dk_at dksX0_otherwise_1 20 rfl rfl)
theorem dX0_otherwise_44 : decode cX0_otherwise 44 = .ok (.iaload, 1) := dk_46 (dk_at dksX0_otherwise_1 22 rfl rfl)
theorem dX0_otherwise_45 : decode cX0_otherwise 45 = .ok (.if_icmp .eq 15, 3) := dk_159 0 15 (dk_at dksX0_otherwise_2 0 rfl rfl)
theorem dX0_otherwise_48 : decode cX0_otherwise 48 = .ok (.iload 4, 2) := dk_21 4 (dk_at dksX0_otherwise_2 3 rfl rfl)
theorem dX0_otherwise_50 : decode cX0_otherwise 50 = .ok (.istore 5, 2) := dk_54 5 (dk_at dksX0_otherwise_2 5 rfl rfl)
theorem dX0_otherwise_52 : decode cX0_otherwise 52 = .ok (.aload_n 0, 1) := dk_42 (dk_at dksX0_otherwise_2 7 rfl rfl)
theorem dX0_otherwise_53 : decode cX0_otherwise 53 = .ok (.iconst 0, 1) := dk_3 (dk_at dksX0_otherwise_2 8 rfl rfl)
theorem dX0_otherwise_54 : decode cX0_otherwise 54 = .ok (.invokevirtual 425, 3) := dk_182 1 169 (dk_at dksX0_otherwise_2 9 rfl rfl)
theorem dX0_otherwise_57 : decode cX0_otherwise 57 = .ok (.iload 5, 2) := dk_21 5 (dk_at dksX0_otherwise_2 12 rfl rfl)
theorem dX0_otherwise_59 : decode cX0_otherwise 59 = .ok (.ireturn, 1) := dk_172 (dk_at dksX0_otherwise_2 14 rfl rfl)
theorem dX0_otherwise_60 : decode cX0_otherwise 60 = .ok (.iinc 4 1, 3) := dk_132 4 1 (dk_at dksX0_otherwise_2 15 rfl rfl)
theorem dX0_otherwise_63 : decode cX0_otherwise 63 = .ok (.goto (-48), 3) := dk_167 255 208 (dk_at dksX0_otherwise_2 18 rfl rfl)
theorem dX0_otherwise_66 : decode cX0_otherwise 66 = .ok (.iconst (-1), 1) := dk_2 (dk_at dksX0_otherwise_2 21 rfl rfl)
theorem dX0_otherwise_67 : decode cX0_otherwise 67 = .ok (.istore 4, 2) := dk_54 4 (dk_at dksX0_otherwise_2 22 rfl rfl)
theorem dX0_otherwise_69 : decode cX0_otherwise 69 = .ok (.aload_n 0, 1) := dk_42 (dk_at dksX0_otherwise_3 0 rfl rfl)
theorem dX0_otherwise_70 : decode cX0_otherwise 70 = .ok (.iconst 0, 1) := dk_3 (dk_at dksX0_otherwise_3 1 rfl rfl)
theorem dX0_otherwise_71 : decode cX0_otherwise 71 = .ok (.invokevirtual 425, 3) := dk_182 1 169 (dk_at dksX0_otherwise_3 2 rfl rfl)
theorem dX0_otherwise_74 : decode cX0_otherwise 74 = .ok (.iload 4, 2) := dk_21 4 (dk_at dksX0_otherwise_3 5 rfl rfl)
theorem dX0_otherwise_76 : decode cX0_otherwise 76 = .ok (.ireturn, 1) := dk_172 (dk_at dksX0_otherwise_3 7 rfl rfl)
theorem dX0_otherwise_77 : decode cX0_otherwise 77 = .ok (.astore 6, 2) := dk_58 6 (dk_at dksX0_otherwise_3 8 rfl rfl)
theorem dX0_otherwise_79 : decode cX0_otherwise 79 = .ok (.aload_n 0, 1) := dk_42 (dk_at dksX0_otherwise_3 10 rfl rfl)
theorem dX0_otherwise_80 : decode cX0_otherwise 80 = .ok (.iconst 0, 1) := dk_3 (dk_at dksX0_otherwise_3 11 rfl rfl)
theorem dX0_otherwise_81 : decode cX0_otherwise 81 = .ok (.invokevirtual 425, 3) := dk_182 1 169 (dk_at dksX0_otherwise_3 12 rfl rfl)
theorem dX0_otherwise_84 : decode cX0_otherwise 84 = .ok (.aload 6, 2) := dk_25 6 (dk_at dksX0_otherwise_3 15 rfl rfl)
theorem dX0_otherwise_86 : decode cX0_otherwise 86 = .ok (.athrow, 1) := dk_191 (dk_at dksX0_otherwise_3 17 rfl rfl)
abbrev cX0_item : ByteArray := prog_1_method_97_code
def yX0_item : MethodName := ⟨RX0, "item", "(Ljava/lang/Object;II)I"⟩
def dkwX0_item_4 : List UInt8 := [46, 172]
abbrev dktX0_item_4 : List UInt8 := dkwX0_item_4 ++ []
def dkwX0_item_3 : List UInt8 := [184, 2, 33, 42, 192, 2, 36, 28, 53, 172, 28, 42, 192, 2, 38, 190, 184, 2, 33, 42, 192, 2, 38, 28]
abbrev dktX0_item_3 : List UInt8 := dkwX0_item_3 ++ dktX0_item_4
def dkwX0_item_2 : List UInt8 := [28, 42, 192, 2, 32, 190, 184, 2, 33, 42, 192, 2, 32, 28, 51, 172, 28, 42, 192, 2, 36, 190]
abbrev dktX0_item_2 : List UInt8 := dkwX0_item_2 ++ dktX0_item_3
def dkwX0_item_1 : List UInt8 := [171, 0, 0, 0, 0, 0, 59, 0, 0, 0, 2, 0, 0, 0, 0, 0, 0, 0, 27, 0, 0, 0, 1, 0, 0, 0, 43]
abbrev dktX0_item_1 : List UInt8 := dkwX0_item_1 ++ dktX0_item_2
def dkwX0_item_0 : List UInt8 := [27]
abbrev dktX0_item_0 : List UInt8 := dkwX0_item_0 ++ dktX0_item_1
theorem dksX0_item_0 : cX0_item.data.toList.drop 0 = dktX0_item_0 := by decide +kernel
theorem dksX0_item_1 : cX0_item.data.toList.drop 1 = dktX0_item_1 := dk_seg dksX0_item_0 1 rfl rfl
theorem dksX0_item_2 : cX0_item.data.toList.drop 28 = dktX0_item_2 := dk_seg dksX0_item_1 27 rfl rfl
theorem dksX0_item_3 : cX0_item.data.toList.drop 50 = dktX0_item_3 := dk_seg dksX0_item_2 22 rfl rfl
theorem dksX0_item_4 : cX0_item.data.toList.drop 74 = dktX0_item_4 := dk_seg dksX0_item_3 24 rfl rfl
theorem dX0_item_0 : decode cX0_item 0 = .ok (.iload_n 1, 1) := dk_27 (dk_at dksX0_item_0 0 rfl rfl)
theorem dX0_item_1 : decode cX0_item 1 = .ok (.lookupswitch 59 #[(0, 27), (1, 43)], 27) := by decide +kernel
theorem dX0_item_28 : decode cX0_item 28 = .ok (.iload_n 2, 1) := dk_28 (dk_at dksX0_item_2 0 rfl rfl)
theorem dX0_item_29 : decode cX0_item 29 = .ok (.aload_n 0, 1) := dk_42 (dk_at dksX0_item_2 1 rfl rfl)
theorem dX0_item_30 : decode cX0_item 30 = .ok (.checkcast 544, 3) := dk_192 2 32 (dk_at dksX0_item_2 2 rfl rfl)
theorem dX0_item_33 : decode cX0_item 33 = .ok (.arraylength, 1) := dk_190 (dk_at dksX0_item_2 5 rfl rfl)
theorem dX0_item_34 : decode cX0_item 34 = .ok (.invokestatic 545, 3) := dk_184 2 33 (dk_at dksX0_item_2 6 rfl rfl)
theorem dX0_item_37 : decode cX0_item 37 = .ok (.aload_n 0, 1) := dk_42 (dk_at dksX0_item_2 9 rfl rfl)
theorem dX0_item_38 : decode cX0_item 38 = .ok (.checkcast 544, 3) := dk_192 2 32 (dk_at dksX0_item_2 10 rfl rfl)
theorem dX0_item_41 : decode cX0_item 41 = .ok (.iload_n 2, 1) := dk_28 (dk_at dksX0_item_2 13 rfl rfl)
theorem dX0_item_42 : decode cX0_item 42 = .ok (.baload, 1) := dk_51 (dk_at dksX0_item_2 14 rfl rfl)
theorem dX0_item_43 : decode cX0_item 43 = .ok (.ireturn, 1) := dk_172 (dk_at dksX0_item_2 15 rfl rfl)
theorem dX0_item_44 : decode cX0_item 44 = .ok (.iload_n 2, 1) := dk_28 (dk_at dksX0_item_2 16 rfl rfl)
theorem dX0_item_45 : decode cX0_item 45 = .ok (.aload_n 0, 1) := dk_42 (dk_at dksX0_item_2 17 rfl rfl)
theorem dX0_item_46 : decode cX0_item 46 = .ok (.checkcast 548, 3) := dk_192 2 36 (dk_at dksX0_item_2 18 rfl rfl)
theorem dX0_item_49 : decode cX0_item 49 = .ok (.arraylength, 1) := dk_190 (dk_at dksX0_item_2 21 rfl rfl)
theorem dX0_item_50 : decode cX0_item 50 = .ok (.invokestatic 545, 3) := dk_184 2 33 (dk_at dksX0_item_3 0 rfl rfl)
theorem dX0_item_53 : decode cX0_item 53 = .ok (.aload_n 0, 1) := dk_42 (dk_at dksX0_item_3 3 rfl rfl)
theorem dX0_item_54 : decode cX0_item 54 = .ok (.checkcast 548, 3) := dk_192 2 36 (dk_at dksX0_item_3 4 rfl rfl)
theorem dX0_item_57 : decode cX0_item 57 = .ok (.iload_n 2, 1) := dk_28 (dk_at dksX0_item_3 7 rfl rfl)
theorem dX0_item_58 : decode cX0_item 58 = .ok (.saload, 1) := dk_53 (dk_at dksX0_item_3 8 rfl rfl)
theorem dX0_item_59 : decode cX0_item 59 = .ok (.ireturn, 1) := dk_172 (dk_at dksX0_item_3 9 rfl rfl)
theorem dX0_item_60 : decode cX0_item 60 = .ok (.iload_n 2, 1) := dk_28 (dk_at dksX0_item_3 10 rfl rfl)
theorem dX0_item_61 : decode cX0_item 61 = .ok (.aload_n 0, 1) := dk_42 (dk_at dksX0_item_3 11 rfl rfl)
theorem dX0_item_62 : decode cX0_item 62 = .ok (.checkcast 550, 3) := dk_192 2 38 (dk_at dksX0_item_3 12 rfl rfl)
theorem dX0_item_65 : decode cX0_item 65 = .ok (.arraylength, 1) := dk_190 (dk_at dksX0_item_3 15 rfl rfl)
theorem dX0_item_66 : decode cX0_item 66 = .ok (.invokestatic 545, 3) := dk_184 2 33 (dk_at dksX0_item_3 16 rfl rfl)
theorem dX0_item_69 : decode cX0_item 69 = .ok (.aload_n 0, 1) := dk_42 (dk_at dksX0_item_3 19 rfl rfl)
theorem dX0_item_70 : decode cX0_item 70 = .ok (.checkcast 550, 3) := dk_192 2 38 (dk_at dksX0_item_3 20 rfl rfl)
theorem dX0_item_73 : decode cX0_item 73 = .ok (.iload_n 2, 1) := dk_28 (dk_at dksX0_item_3 23 rfl rfl)
theorem dX0_item_74 : decode cX0_item 74 = .ok (.iaload, 1) := dk_46 (dk_at dksX0_item_4 0 rfl rfl)
theorem dX0_item_75 : decode cX0_item 75 = .ok (.ireturn, 1) := dk_172 (dk_at dksX0_item_4 1 rfl rfl)
abbrev cX0_asksPlace : ByteArray := prog_1_method_99_code
def yX0_asksPlace : MethodName := ⟨RX0, "asksPlace", "(II)V"⟩
def dkwX0_asksPlace_0 : List UInt8 := [26, 155, 0, 8, 26, 27, 161, 0, 11, 187, 2, 44, 89, 183, 2, 46, 191, 177]
abbrev dktX0_asksPlace_0 : List UInt8 := dkwX0_asksPlace_0 ++ []
theorem dksX0_asksPlace_0 : cX0_asksPlace.data.toList.drop 0 = dktX0_asksPlace_0 := by decide +kernel
theorem dX0_asksPlace_0 : decode cX0_asksPlace 0 = .ok (.iload_n 0, 1) := dk_26 (dk_at dksX0_asksPlace_0 0 rfl rfl)
theorem dX0_asksPlace_1 : decode cX0_asksPlace 1 = .ok (.ifCond .lt 8, 3) := dk_155 0 8 (dk_at dksX0_asksPlace_0 1 rfl rfl)
theorem dX0_asksPlace_4 : decode cX0_asksPlace 4 = .ok (.iload_n 0, 1) := dk_26 (dk_at dksX0_asksPlace_0 4 rfl rfl)
theorem dX0_asksPlace_5 : decode cX0_asksPlace 5 = .ok (.iload_n 1, 1) := dk_27 (dk_at dksX0_asksPlace_0 5 rfl rfl)
theorem dX0_asksPlace_6 : decode cX0_asksPlace 6 = .ok (.if_icmp .lt 11, 3) := dk_161 0 11 (dk_at dksX0_asksPlace_0 6 rfl rfl)
theorem dX0_asksPlace_9 : decode cX0_asksPlace 9 = .ok (.new 556, 3) := dk_187 2 44 (dk_at dksX0_asksPlace_0 9 rfl rfl)
theorem dX0_asksPlace_12 : decode cX0_asksPlace 12 = .ok (.dup, 1) := dk_89 (dk_at dksX0_asksPlace_0 12 rfl rfl)
theorem dX0_asksPlace_13 : decode cX0_asksPlace 13 = .ok (.invokespecial 558, 3) := dk_183 2 46 (dk_at dksX0_asksPlace_0 13 rfl rfl)
theorem dX0_asksPlace_16 : decode cX0_asksPlace 16 = .ok (.athrow, 1) := dk_191 (dk_at dksX0_asksPlace_0 16 rfl rfl)
theorem dX0_asksPlace_17 : decode cX0_asksPlace 17 = .ok (.return_, 1) := dk_177 (dk_at dksX0_asksPlace_0 17 rfl rfl)
abbrev cX0_kindsOf : ByteArray := prog_1_method_77_code
def yX0_kindsOf : MethodName := ⟨RX0, "kindsOf", "(Ljava/lang/Object;II)I"⟩
def dkwX0_kindsOf_1 : List UInt8 := [153, 0, 10, 4, 21, 5, 120, 167, 0, 4, 3, 128, 54, 4, 132, 5, 1, 167, 255, 221, 21, 4, 172]
abbrev dktX0_kindsOf_1 : List UInt8 := dkwX0_kindsOf_1 ++ []
def dkwX0_kindsOf_0 : List UInt8 := [3, 54, 4, 3, 54, 5, 21, 5, 16, 6, 162, 0, 34, 21, 4, 42, 43, 28, 29, 21, 5, 182, 1, 230]
abbrev dktX0_kindsOf_0 : List UInt8 := dkwX0_kindsOf_0 ++ dktX0_kindsOf_1
theorem dksX0_kindsOf_0 : cX0_kindsOf.data.toList.drop 0 = dktX0_kindsOf_0 := by decide +kernel
theorem dksX0_kindsOf_1 : cX0_kindsOf.data.toList.drop 24 = dktX0_kindsOf_1 := dk_seg dksX0_kindsOf_0 24 rfl rfl
theorem dX0_kindsOf_0 : decode cX0_kindsOf 0 = .ok (.iconst 0, 1) := dk_3 (dk_at dksX0_kindsOf_0 0 rfl rfl)
theorem dX0_kindsOf_1 : decode cX0_kindsOf 1 = .ok (.istore 4, 2) := dk_54 4 (dk_at dksX0_kindsOf_0 1 rfl rfl)
theorem dX0_kindsOf_3 : decode cX0_kindsOf 3 = .ok (.iconst 0, 1) := dk_3 (dk_at dksX0_kindsOf_0 3 rfl rfl)
theorem dX0_kindsOf_4 : decode cX0_kindsOf 4 = .ok (.istore 5, 2) := dk_54 5 (dk_at dksX0_kindsOf_0 4 rfl rfl)
theorem dX0_kindsOf_6 : decode cX0_kindsOf 6 = .ok (.iload 5, 2) := dk_21 5 (dk_at dksX0_kindsOf_0 6 rfl rfl)
theorem dX0_kindsOf_8 : decode cX0_kindsOf 8 = .ok (.bipush 6, 2) := dk_16 6 (dk_at dksX0_kindsOf_0 8 rfl rfl)
theorem dX0_kindsOf_10 : decode cX0_kindsOf 10 = .ok (.if_icmp .ge 34, 3) := dk_162 0 34 (dk_at dksX0_kindsOf_0 10 rfl rfl)
theorem dX0_kindsOf_13 : decode cX0_kindsOf 13 = .ok (.iload 4, 2) := dk_21 4 (dk_at dksX0_kindsOf_0 13 rfl rfl)
theorem dX0_kindsOf_15 : decode cX0_kindsOf 15 = .ok (.aload_n 0, 1) := dk_42 (dk_at dksX0_kindsOf_0 15 rfl rfl)
theorem dX0_kindsOf_16 : decode cX0_kindsOf 16 = .ok (.aload_n 1, 1) := dk_43 (dk_at dksX0_kindsOf_0 16 rfl rfl)
theorem dX0_kindsOf_17 : decode cX0_kindsOf 17 = .ok (.iload_n 2, 1) := dk_28 (dk_at dksX0_kindsOf_0 17 rfl rfl)
theorem dX0_kindsOf_18 : decode cX0_kindsOf 18 = .ok (.iload_n 3, 1) := dk_29 (dk_at dksX0_kindsOf_0 18 rfl rfl)
theorem dX0_kindsOf_19 : decode cX0_kindsOf 19 = .ok (.iload 5, 2) := dk_21 5 (dk_at dksX0_kindsOf_0 19 rfl rfl)
theorem dX0_kindsOf_21 : decode cX0_kindsOf 21 = .ok (.invokevirtual 486, 3) := dk_182 1 230 (dk_at dksX0_kindsOf_0 21 rfl rfl)
theorem dX0_kindsOf_24 : decode cX0_kindsOf 24 = .ok (.ifCond .eq 10, 3) := dk_153 0 10 (dk_at dksX0_kindsOf_1 0 rfl rfl)
theorem dX0_kindsOf_27 : decode cX0_kindsOf 27 = .ok (.iconst 1, 1) := dk_4 (dk_at dksX0_kindsOf_1 3 rfl rfl)
theorem dX0_kindsOf_28 : decode cX0_kindsOf 28 = .ok (.iload 5, 2) := dk_21 5 (dk_at dksX0_kindsOf_1 4 rfl rfl)
theorem dX0_kindsOf_30 : decode cX0_kindsOf 30 = .ok (.ishl, 1) := dk_120 (dk_at dksX0_kindsOf_1 6 rfl rfl)
theorem dX0_kindsOf_31 : decode cX0_kindsOf 31 = .ok (.goto 4, 3) := dk_167 0 4 (dk_at dksX0_kindsOf_1 7 rfl rfl)
theorem dX0_kindsOf_34 : decode cX0_kindsOf 34 = .ok (.iconst 0, 1) := dk_3 (dk_at dksX0_kindsOf_1 10 rfl rfl)
theorem dX0_kindsOf_35 : decode cX0_kindsOf 35 = .ok (.ior, 1) := dk_128 (dk_at dksX0_kindsOf_1 11 rfl rfl)
theorem dX0_kindsOf_36 : decode cX0_kindsOf 36 = .ok (.istore 4, 2) := dk_54 4 (dk_at dksX0_kindsOf_1 12 rfl rfl)
theorem dX0_kindsOf_38 : decode cX0_kindsOf 38 = .ok (.iinc 5 1, 3) := dk_132 5 1 (dk_at dksX0_kindsOf_1 14 rfl rfl)
theorem dX0_kindsOf_41 : decode cX0_kindsOf 41 = .ok (.goto (-35), 3) := dk_167 255 221 (dk_at dksX0_kindsOf_1 17 rfl rfl)
theorem dX0_kindsOf_44 : decode cX0_kindsOf 44 = .ok (.iload 4, 2) := dk_21 4 (dk_at dksX0_kindsOf_1 20 rfl rfl)
theorem dX0_kindsOf_46 : decode cX0_kindsOf 46 = .ok (.ireturn, 1) := dk_172 (dk_at dksX0_kindsOf_1 22 rfl rfl)
abbrev cX0_isSoAs : ByteArray := prog_1_method_76_code
def yX0_isSoAs : MethodName := ⟨RX0, "isSoAs", "(Ljava/lang/Object;III)Z"⟩
def dkwX0_isSoAs_2 : List UInt8 := [42, 180, 0, 47, 28, 25, 5, 83, 21, 6, 172, 58, 7, 42, 180, 0, 47, 28, 25, 5, 83, 25, 7, 191]
abbrev dktX0_isSoAs_2 : List UInt8 := dkwX0_isSoAs_2 ++ []
def dkwX0_isSoAs_1 : List UInt8 := [25, 5, 182, 1, 223, 83, 42, 43, 28, 29, 182, 1, 227, 2, 160, 0, 7, 4, 167, 0, 4, 3, 54, 6]
abbrev dktX0_isSoAs_1 : List UInt8 := dkwX0_isSoAs_1 ++ dktX0_isSoAs_2
def dkwX0_isSoAs_0 : List UInt8 := [42, 180, 0, 47, 28, 50, 58, 5, 42, 180, 0, 47, 28, 21, 4, 25, 5, 180, 0, 85, 184, 0, 51]
abbrev dktX0_isSoAs_0 : List UInt8 := dkwX0_isSoAs_0 ++ dktX0_isSoAs_1
theorem dksX0_isSoAs_0 : cX0_isSoAs.data.toList.drop 0 = dktX0_isSoAs_0 := by decide +kernel
theorem dksX0_isSoAs_1 : cX0_isSoAs.data.toList.drop 23 = dktX0_isSoAs_1 := dk_seg dksX0_isSoAs_0 23 rfl rfl
theorem dksX0_isSoAs_2 : cX0_isSoAs.data.toList.drop 47 = dktX0_isSoAs_2 := dk_seg dksX0_isSoAs_1 24 rfl rfl
theorem dX0_isSoAs_0 : decode cX0_isSoAs 0 = .ok (.aload_n 0, 1) := dk_42 (dk_at dksX0_isSoAs_0 0 rfl rfl)
theorem dX0_isSoAs_1 : decode cX0_isSoAs 1 = .ok (.getfield 47, 3) := dk_180 0 47 (dk_at dksX0_isSoAs_0 1 rfl rfl)
theorem dX0_isSoAs_4 : decode cX0_isSoAs 4 = .ok (.iload_n 2, 1) := dk_28 (dk_at dksX0_isSoAs_0 4 rfl rfl)
theorem dX0_isSoAs_5 : decode cX0_isSoAs 5 = .ok (.aaload, 1) := dk_50 (dk_at dksX0_isSoAs_0 5 rfl rfl)
theorem dX0_isSoAs_6 : decode cX0_isSoAs 6 = .ok (.astore 5, 2) := dk_58 5 (dk_at dksX0_isSoAs_0 6 rfl rfl)
theorem dX0_isSoAs_8 : decode cX0_isSoAs 8 = .ok (.aload_n 0, 1) := dk_42 (dk_at dksX0_isSoAs_0 8 rfl rfl)
theorem dX0_isSoAs_9 : decode cX0_isSoAs 9 = .ok (.getfield 47, 3) := dk_180 0 47 (dk_at dksX0_isSoAs_0 9 rfl rfl)
theorem dX0_isSoAs_12 : decode cX0_isSoAs 12 = .ok (.iload_n 2, 1) := dk_28 (dk_at dksX0_isSoAs_0 12 rfl rfl)
theorem dX0_isSoAs_13 : decode cX0_isSoAs 13 = .ok (.iload 4, 2) := dk_21 4 (dk_at dksX0_isSoAs_0 13 rfl rfl)
theorem dX0_isSoAs_15 : decode cX0_isSoAs 15 = .ok (.aload 5, 2) := dk_25 5 (dk_at dksX0_isSoAs_0 15 rfl rfl)
theorem dX0_isSoAs_17 : decode cX0_isSoAs 17 = .ok (.getfield 85, 3) := dk_180 0 85 (dk_at dksX0_isSoAs_0 17 rfl rfl)
theorem dX0_isSoAs_20 : decode cX0_isSoAs 20 = .ok (.invokestatic 51, 3) := dk_184 0 51 (dk_at dksX0_isSoAs_0 20 rfl rfl)
theorem dX0_isSoAs_23 : decode cX0_isSoAs 23 = .ok (.aload 5, 2) := dk_25 5 (dk_at dksX0_isSoAs_1 0 rfl rfl)
theorem dX0_isSoAs_25 : decode cX0_isSoAs 25 = .ok (.invokevirtual 479, 3) := dk_182 1 223 (dk_at dksX0_isSoAs_1 2 rfl rfl)
theorem dX0_isSoAs_28 : decode cX0_isSoAs 28 = .ok (.aastore, 1) := dk_83 (dk_at dksX0_isSoAs_1 5 rfl rfl)
theorem dX0_isSoAs_29 : decode cX0_isSoAs 29 = .ok (.aload_n 0, 1) := dk_42 (dk_at dksX0_isSoAs_1 6 rfl rfl)
theorem dX0_isSoAs_30 : decode cX0_isSoAs 30 = .ok (.aload_n 1, 1) := dk_43 (dk_at dksX0_isSoAs_1 7 rfl rfl)
theorem dX0_isSoAs_31 : decode cX0_isSoAs 31 = .ok (.iload_n 2, 1) := dk_28 (dk_at dksX0_isSoAs_1 8 rfl rfl)
theorem dX0_isSoAs_32 : decode cX0_isSoAs 32 = .ok (.iload_n 3, 1) := dk_29 (dk_at dksX0_isSoAs_1 9 rfl rfl)
theorem dX0_isSoAs_33 : decode cX0_isSoAs 33 = .ok (.invokevirtual 483, 3) := dk_182 1 227 (dk_at dksX0_isSoAs_1 10 rfl rfl)
theorem dX0_isSoAs_36 : decode cX0_isSoAs 36 = .ok (.iconst (-1), 1) := dk_2 (dk_at dksX0_isSoAs_1 13 rfl rfl)
theorem dX0_isSoAs_37 : decode cX0_isSoAs 37 = .ok (.if_icmp .ne 7, 3) := dk_160 0 7 (dk_at dksX0_isSoAs_1 14 rfl rfl)
theorem dX0_isSoAs_40 : decode cX0_isSoAs 40 = .ok (.iconst 1, 1) := dk_4 (dk_at dksX0_isSoAs_1 17 rfl rfl)
theorem dX0_isSoAs_41 : decode cX0_isSoAs 41 = .ok (.goto 4, 3) := dk_167 0 4 (dk_at dksX0_isSoAs_1 18 rfl rfl)
theorem dX0_isSoAs_44 : decode cX0_isSoAs 44 = .ok (.iconst 0, 1) := dk_3 (dk_at dksX0_isSoAs_1 21 rfl rfl)
theorem dX0_isSoAs_45 : decode cX0_isSoAs 45 = .ok (.istore 6, 2) := dk_54 6 (dk_at dksX0_isSoAs_1 22 rfl rfl)
theorem dX0_isSoAs_47 : decode cX0_isSoAs 47 = .ok (.aload_n 0, 1) := dk_42 (dk_at dksX0_isSoAs_2 0 rfl rfl)
theorem dX0_isSoAs_48 : decode cX0_isSoAs 48 = .ok (.getfield 47, 3) := dk_180 0 47 (dk_at dksX0_isSoAs_2 1 rfl rfl)
theorem dX0_isSoAs_51 : decode cX0_isSoAs 51 = .ok (.iload_n 2, 1) := dk_28 (dk_at dksX0_isSoAs_2 4 rfl rfl)
theorem dX0_isSoAs_52 : decode cX0_isSoAs 52 = .ok (.aload 5, 2) := dk_25 5 (dk_at dksX0_isSoAs_2 5 rfl rfl)
theorem dX0_isSoAs_54 : decode cX0_isSoAs 54 = .ok (.aastore, 1) := dk_83 (dk_at dksX0_isSoAs_2 7 rfl rfl)
theorem dX0_isSoAs_55 : decode cX0_isSoAs 55 = .ok (.iload 6, 2) := dk_21 6 (dk_at dksX0_isSoAs_2 8 rfl rfl)
theorem dX0_isSoAs_57 : decode cX0_isSoAs 57 = .ok (.ireturn, 1) := dk_172 (dk_at dksX0_isSoAs_2 10 rfl rfl)
theorem dX0_isSoAs_58 : decode cX0_isSoAs 58 = .ok (.astore 7, 2) := dk_58 7 (dk_at dksX0_isSoAs_2 11 rfl rfl)
theorem dX0_isSoAs_60 : decode cX0_isSoAs 60 = .ok (.aload_n 0, 1) := dk_42 (dk_at dksX0_isSoAs_2 13 rfl rfl)
theorem dX0_isSoAs_61 : decode cX0_isSoAs 61 = .ok (.getfield 47, 3) := dk_180 0 47 (dk_at dksX0_isSoAs_2 14 rfl rfl)
theorem dX0_isSoAs_64 : decode cX0_isSoAs 64 = .ok (.iload_n 2, 1) := dk_28 (dk_at dksX0_isSoAs_2 17 rfl rfl)
theorem dX0_isSoAs_65 : decode cX0_isSoAs 65 = .ok (.aload 5, 2) := dk_25 5 (dk_at dksX0_isSoAs_2 18 rfl rfl)
theorem dX0_isSoAs_67 : decode cX0_isSoAs 67 = .ok (.aastore, 1) := dk_83 (dk_at dksX0_isSoAs_2 20 rfl rfl)
theorem dX0_isSoAs_68 : decode cX0_isSoAs 68 = .ok (.aload 7, 2) := dk_25 7 (dk_at dksX0_isSoAs_2 21 rfl rfl)
theorem dX0_isSoAs_70 : decode cX0_isSoAs 70 = .ok (.athrow, 1) := dk_191 (dk_at dksX0_isSoAs_2 23 rfl rfl)
abbrev cX0_numbersOf : ByteArray := prog_1_method_79_code
def yX0_numbersOf : MethodName := ⟨RX0, "numbersOf", "(Ljava/lang/Object;II)I"⟩
def dkwX0_numbersOf_2 : List UInt8 := [21, 4, 172]
abbrev dktX0_numbersOf_2 : List UInt8 := dkwX0_numbersOf_2 ++ []
def dkwX0_numbersOf_1 : List UInt8 := [182, 1, 234, 153, 0, 10, 4, 21, 5, 120, 167, 0, 4, 3, 128, 54, 4, 132, 5, 1, 167, 255, 220]
abbrev dktX0_numbersOf_1 : List UInt8 := dkwX0_numbersOf_1 ++ dktX0_numbersOf_2
def dkwX0_numbersOf_0 : List UInt8 := [3, 54, 4, 3, 54, 5, 21, 5, 16, 9, 163, 0, 35, 21, 4, 42, 43, 28, 29, 4, 21, 5]
abbrev dktX0_numbersOf_0 : List UInt8 := dkwX0_numbersOf_0 ++ dktX0_numbersOf_1
theorem dksX0_numbersOf_0 : cX0_numbersOf.data.toList.drop 0 = dktX0_numbersOf_0 := by decide +kernel
theorem dksX0_numbersOf_1 : cX0_numbersOf.data.toList.drop 22 = dktX0_numbersOf_1 := dk_seg dksX0_numbersOf_0 22 rfl rfl
theorem dksX0_numbersOf_2 : cX0_numbersOf.data.toList.drop 45 = dktX0_numbersOf_2 := dk_seg dksX0_numbersOf_1 23 rfl rfl
theorem dX0_numbersOf_0 : decode cX0_numbersOf 0 = .ok (.iconst 0, 1) := dk_3 (dk_at dksX0_numbersOf_0 0 rfl rfl)
theorem dX0_numbersOf_1 : decode cX0_numbersOf 1 = .ok (.istore 4, 2) := dk_54 4 (dk_at dksX0_numbersOf_0 1 rfl rfl)
theorem dX0_numbersOf_3 : decode cX0_numbersOf 3 = .ok (.iconst 0, 1) := dk_3 (dk_at dksX0_numbersOf_0 3 rfl rfl)
theorem dX0_numbersOf_4 : decode cX0_numbersOf 4 = .ok (.istore 5, 2) := dk_54 5 (dk_at dksX0_numbersOf_0 4 rfl rfl)
theorem dX0_numbersOf_6 : decode cX0_numbersOf 6 = .ok (.iload 5, 2) := dk_21 5 (dk_at dksX0_numbersOf_0 6 rfl rfl)
theorem dX0_numbersOf_8 : decode cX0_numbersOf 8 = .ok (.bipush 9, 2) := dk_16 9 (dk_at dksX0_numbersOf_0 8 rfl rfl)
theorem dX0_numbersOf_10 : decode cX0_numbersOf 10 = .ok (.if_icmp .gt 35, 3) := dk_163 0 35 (dk_at dksX0_numbersOf_0 10 rfl rfl)
theorem dX0_numbersOf_13 : decode cX0_numbersOf 13 = .ok (.iload 4, 2) := dk_21 4 (dk_at dksX0_numbersOf_0 13 rfl rfl)
theorem dX0_numbersOf_15 : decode cX0_numbersOf 15 = .ok (.aload_n 0, 1) := dk_42 (dk_at dksX0_numbersOf_0 15 rfl rfl)
theorem dX0_numbersOf_16 : decode cX0_numbersOf 16 = .ok (.aload_n 1, 1) := dk_43 (dk_at dksX0_numbersOf_0 16 rfl rfl)
theorem dX0_numbersOf_17 : decode cX0_numbersOf 17 = .ok (.iload_n 2, 1) := dk_28 (dk_at dksX0_numbersOf_0 17 rfl rfl)
theorem dX0_numbersOf_18 : decode cX0_numbersOf 18 = .ok (.iload_n 3, 1) := dk_29 (dk_at dksX0_numbersOf_0 18 rfl rfl)
theorem dX0_numbersOf_19 : decode cX0_numbersOf 19 = .ok (.iconst 1, 1) := dk_4 (dk_at dksX0_numbersOf_0 19 rfl rfl)
theorem dX0_numbersOf_20 : decode cX0_numbersOf 20 = .ok (.iload 5, 2) := dk_21 5 (dk_at dksX0_numbersOf_0 20 rfl rfl)
theorem dX0_numbersOf_22 : decode cX0_numbersOf 22 = .ok (.invokevirtual 490, 3) := dk_182 1 234 (dk_at dksX0_numbersOf_1 0 rfl rfl)
theorem dX0_numbersOf_25 : decode cX0_numbersOf 25 = .ok (.ifCond .eq 10, 3) := dk_153 0 10 (dk_at dksX0_numbersOf_1 3 rfl rfl)
theorem dX0_numbersOf_28 : decode cX0_numbersOf 28 = .ok (.iconst 1, 1) := dk_4 (dk_at dksX0_numbersOf_1 6 rfl rfl)
theorem dX0_numbersOf_29 : decode cX0_numbersOf 29 = .ok (.iload 5, 2) := dk_21 5 (dk_at dksX0_numbersOf_1 7 rfl rfl)
theorem dX0_numbersOf_31 : decode cX0_numbersOf 31 = .ok (.ishl, 1) := dk_120 (dk_at dksX0_numbersOf_1 9 rfl rfl)
theorem dX0_numbersOf_32 : decode cX0_numbersOf 32 = .ok (.goto 4, 3) := dk_167 0 4 (dk_at dksX0_numbersOf_1 10 rfl rfl)
theorem dX0_numbersOf_35 : decode cX0_numbersOf 35 = .ok (.iconst 0, 1) := dk_3 (dk_at dksX0_numbersOf_1 13 rfl rfl)
theorem dX0_numbersOf_36 : decode cX0_numbersOf 36 = .ok (.ior, 1) := dk_128 (dk_at dksX0_numbersOf_1 14 rfl rfl)
theorem dX0_numbersOf_37 : decode cX0_numbersOf 37 = .ok (.istore 4, 2) := dk_54 4 (dk_at dksX0_numbersOf_1 15 rfl rfl)
theorem dX0_numbersOf_39 : decode cX0_numbersOf 39 = .ok (.iinc 5 1, 3) := dk_132 5 1 (dk_at dksX0_numbersOf_1 17 rfl rfl)
theorem dX0_numbersOf_42 : decode cX0_numbersOf 42 = .ok (.goto (-36), 3) := dk_167 255 220 (dk_at dksX0_numbersOf_1 20 rfl rfl)
theorem dX0_numbersOf_45 : decode cX0_numbersOf 45 = .ok (.iload 4, 2) := dk_21 4 (dk_at dksX0_numbersOf_2 0 rfl rfl)
theorem dX0_numbersOf_47 : decode cX0_numbersOf 47 = .ok (.ireturn, 1) := dk_172 (dk_at dksX0_numbersOf_2 2 rfl rfl)
abbrev cX0_isSoBy : ByteArray := prog_1_method_78_code
def yX0_isSoBy : MethodName := ⟨RX0, "isSoBy", "(Ljava/lang/Object;IIII)Z"⟩
def dkwX0_isSoBy_2 : List UInt8 := [21, 7, 172, 58, 8, 42, 21, 4, 28, 21, 6, 182, 0, 98, 25, 8, 191]
abbrev dktX0_isSoBy_2 : List UInt8 := dkwX0_isSoBy_2 ++ []
def dkwX0_isSoBy_1 : List UInt8 := [182, 1, 227, 2, 160, 0, 7, 4, 167, 0, 4, 3, 54, 7, 42, 21, 4, 28, 21, 6, 182, 0, 98]
abbrev dktX0_isSoBy_1 : List UInt8 := dkwX0_isSoBy_1 ++ dktX0_isSoBy_2
def dkwX0_isSoBy_0 : List UInt8 := [42, 28, 21, 4, 182, 0, 95, 54, 6, 42, 21, 4, 28, 21, 5, 182, 0, 98, 42, 43, 28, 29]
abbrev dktX0_isSoBy_0 : List UInt8 := dkwX0_isSoBy_0 ++ dktX0_isSoBy_1
theorem dksX0_isSoBy_0 : cX0_isSoBy.data.toList.drop 0 = dktX0_isSoBy_0 := by decide +kernel
theorem dksX0_isSoBy_1 : cX0_isSoBy.data.toList.drop 22 = dktX0_isSoBy_1 := dk_seg dksX0_isSoBy_0 22 rfl rfl
theorem dksX0_isSoBy_2 : cX0_isSoBy.data.toList.drop 45 = dktX0_isSoBy_2 := dk_seg dksX0_isSoBy_1 23 rfl rfl
theorem dX0_isSoBy_0 : decode cX0_isSoBy 0 = .ok (.aload_n 0, 1) := dk_42 (dk_at dksX0_isSoBy_0 0 rfl rfl)
theorem dX0_isSoBy_1 : decode cX0_isSoBy 1 = .ok (.iload_n 2, 1) := dk_28 (dk_at dksX0_isSoBy_0 1 rfl rfl)
theorem dX0_isSoBy_2 : decode cX0_isSoBy 2 = .ok (.iload 4, 2) := dk_21 4 (dk_at dksX0_isSoBy_0 2 rfl rfl)
theorem dX0_isSoBy_4 : decode cX0_isSoBy 4 = .ok (.invokevirtual 95, 3) := dk_182 0 95 (dk_at dksX0_isSoBy_0 4 rfl rfl)
theorem dX0_isSoBy_7 : decode cX0_isSoBy 7 = .ok (.istore 6, 2) := dk_54 6 (dk_at dksX0_isSoBy_0 7 rfl rfl)
theorem dX0_isSoBy_9 : decode cX0_isSoBy 9 = .ok (.aload_n 0, 1) := dk_42 (dk_at dksX0_isSoBy_0 9 rfl rfl)
theorem dX0_isSoBy_10 : decode cX0_isSoBy 10 = .ok (.iload 4, 2) := dk_21 4 (dk_at dksX0_isSoBy_0 10 rfl rfl)
theorem dX0_isSoBy_12 : decode cX0_isSoBy 12 = .ok (.iload_n 2, 1) := dk_28 (dk_at dksX0_isSoBy_0 12 rfl rfl)
theorem dX0_isSoBy_13 : decode cX0_isSoBy 13 = .ok (.iload 5, 2) := dk_21 5 (dk_at dksX0_isSoBy_0 13 rfl rfl)
theorem dX0_isSoBy_15 : decode cX0_isSoBy 15 = .ok (.invokevirtual 98, 3) := dk_182 0 98 (dk_at dksX0_isSoBy_0 15 rfl rfl)
theorem dX0_isSoBy_18 : decode cX0_isSoBy 18 = .ok (.aload_n 0, 1) := dk_42 (dk_at dksX0_isSoBy_0 18 rfl rfl)
theorem dX0_isSoBy_19 : decode cX0_isSoBy 19 = .ok (.aload_n 1, 1) := dk_43 (dk_at dksX0_isSoBy_0 19 rfl rfl)
theorem dX0_isSoBy_20 : decode cX0_isSoBy 20 = .ok (.iload_n 2, 1) := dk_28 (dk_at dksX0_isSoBy_0 20 rfl rfl)
theorem dX0_isSoBy_21 : decode cX0_isSoBy 21 = .ok (.iload_n 3, 1) := dk_29 (dk_at dksX0_isSoBy_0 21 rfl rfl)
theorem dX0_isSoBy_22 : decode cX0_isSoBy 22 = .ok (.invokevirtual 483, 3) := dk_182 1 227 (dk_at dksX0_isSoBy_1 0 rfl rfl)
theorem dX0_isSoBy_25 : decode cX0_isSoBy 25 = .ok (.iconst (-1), 1) := dk_2 (dk_at dksX0_isSoBy_1 3 rfl rfl)
theorem dX0_isSoBy_26 : decode cX0_isSoBy 26 = .ok (.if_icmp .ne 7, 3) := dk_160 0 7 (dk_at dksX0_isSoBy_1 4 rfl rfl)
theorem dX0_isSoBy_29 : decode cX0_isSoBy 29 = .ok (.iconst 1, 1) := dk_4 (dk_at dksX0_isSoBy_1 7 rfl rfl)
theorem dX0_isSoBy_30 : decode cX0_isSoBy 30 = .ok (.goto 4, 3) := dk_167 0 4 (dk_at dksX0_isSoBy_1 8 rfl rfl)
theorem dX0_isSoBy_33 : decode cX0_isSoBy 33 = .ok (.iconst 0, 1) := dk_3 (dk_at dksX0_isSoBy_1 11 rfl rfl)
theorem dX0_isSoBy_34 : decode cX0_isSoBy 34 = .ok (.istore 7, 2) := dk_54 7 (dk_at dksX0_isSoBy_1 12 rfl rfl)
theorem dX0_isSoBy_36 : decode cX0_isSoBy 36 = .ok (.aload_n 0, 1) := dk_42 (dk_at dksX0_isSoBy_1 14 rfl rfl)
theorem dX0_isSoBy_37 : decode cX0_isSoBy 37 = .ok (.iload 4, 2) := dk_21 4 (dk_at dksX0_isSoBy_1 15 rfl rfl)
theorem dX0_isSoBy_39 : decode cX0_isSoBy 39 = .ok (.iload_n 2, 1) := dk_28 (dk_at dksX0_isSoBy_1 17 rfl rfl)
theorem dX0_isSoBy_40 : decode cX0_isSoBy 40 = .ok (.iload 6, 2) := dk_21 6 (dk_at dksX0_isSoBy_1 18 rfl rfl)
theorem dX0_isSoBy_42 : decode cX0_isSoBy 42 = .ok (.invokevirtual 98, 3) := dk_182 0 98 (dk_at dksX0_isSoBy_1 20 rfl rfl)
theorem dX0_isSoBy_45 : decode cX0_isSoBy 45 = .ok (.iload 7, 2) := dk_21 7 (dk_at dksX0_isSoBy_2 0 rfl rfl)
theorem dX0_isSoBy_47 : decode cX0_isSoBy 47 = .ok (.ireturn, 1) := dk_172 (dk_at dksX0_isSoBy_2 2 rfl rfl)
theorem dX0_isSoBy_48 : decode cX0_isSoBy 48 = .ok (.astore 8, 2) := dk_58 8 (dk_at dksX0_isSoBy_2 3 rfl rfl)
theorem dX0_isSoBy_50 : decode cX0_isSoBy 50 = .ok (.aload_n 0, 1) := dk_42 (dk_at dksX0_isSoBy_2 5 rfl rfl)
theorem dX0_isSoBy_51 : decode cX0_isSoBy 51 = .ok (.iload 4, 2) := dk_21 4 (dk_at dksX0_isSoBy_2 6 rfl rfl)
theorem dX0_isSoBy_53 : decode cX0_isSoBy 53 = .ok (.iload_n 2, 1) := dk_28 (dk_at dksX0_isSoBy_2 8 rfl rfl)
theorem dX0_isSoBy_54 : decode cX0_isSoBy 54 = .ok (.iload 6, 2) := dk_21 6 (dk_at dksX0_isSoBy_2 9 rfl rfl)
theorem dX0_isSoBy_56 : decode cX0_isSoBy 56 = .ok (.invokevirtual 98, 3) := dk_182 0 98 (dk_at dksX0_isSoBy_2 11 rfl rfl)
theorem dX0_isSoBy_59 : decode cX0_isSoBy 59 = .ok (.aload 8, 2) := dk_25 8 (dk_at dksX0_isSoBy_2 14 rfl rfl)
theorem dX0_isSoBy_61 : decode cX0_isSoBy 61 = .ok (.athrow, 1) := dk_191 (dk_at dksX0_isSoBy_2 16 rfl rfl)
abbrev cX0_apronsOf : ByteArray := prog_1_method_80_code
def yX0_apronsOf : MethodName := ⟨RX0, "apronsOf", "(Ljava/lang/Object;IIZ)I"⟩
def dkwX0_apronsOf_2 : List UInt8 := [153, 0, 7, 2, 167, 0, 5, 21, 5, 172]
abbrev dktX0_apronsOf_2 : List UInt8 := dkwX0_apronsOf_2 ++ []
def dkwX0_apronsOf_1 : List UInt8 := [153, 0, 14, 21, 4, 153, 0, 6, 21, 6, 172, 132, 5, 1, 132, 6, 1, 167, 255, 222, 21, 4]
abbrev dktX0_apronsOf_1 : List UInt8 := dkwX0_apronsOf_1 ++ dktX0_apronsOf_2
def dkwX0_apronsOf_0 : List UInt8 := [3, 54, 5, 3, 54, 6, 21, 6, 16, 99, 163, 0, 33, 42, 43, 28, 29, 5, 21, 6, 182, 1, 234]
abbrev dktX0_apronsOf_0 : List UInt8 := dkwX0_apronsOf_0 ++ dktX0_apronsOf_1
theorem dksX0_apronsOf_0 : cX0_apronsOf.data.toList.drop 0 = dktX0_apronsOf_0 := by decide +kernel
theorem dksX0_apronsOf_1 : cX0_apronsOf.data.toList.drop 23 = dktX0_apronsOf_1 := dk_seg dksX0_apronsOf_0 23 rfl rfl
theorem dksX0_apronsOf_2 : cX0_apronsOf.data.toList.drop 45 = dktX0_apronsOf_2 := dk_seg dksX0_apronsOf_1 22 rfl rfl
theorem dX0_apronsOf_0 : decode cX0_apronsOf 0 = .ok (.iconst 0, 1) := dk_3 (dk_at dksX0_apronsOf_0 0 rfl rfl)
theorem dX0_apronsOf_1 : decode cX0_apronsOf 1 = .ok (.istore 5, 2) := dk_54 5 (dk_at dksX0_apronsOf_0 1 rfl rfl)
theorem dX0_apronsOf_3 : decode cX0_apronsOf 3 = .ok (.iconst 0, 1) := dk_3 (dk_at dksX0_apronsOf_0 3 rfl rfl)
theorem dX0_apronsOf_4 : decode cX0_apronsOf 4 = .ok (.istore 6, 2) := dk_54 6 (dk_at dksX0_apronsOf_0 4 rfl rfl)
theorem dX0_apronsOf_6 : decode cX0_apronsOf 6 = .ok (.iload 6, 2) := dk_21 6 (dk_at dksX0_apronsOf_0 6 rfl rfl)
theorem dX0_apronsOf_8 : decode cX0_apronsOf 8 = .ok (.bipush 99, 2) := dk_16 99 (dk_at dksX0_apronsOf_0 8 rfl rfl)
theorem dX0_apronsOf_10 : decode cX0_apronsOf 10 = .ok (.if_icmp .gt 33, 3) := dk_163 0 33 (dk_at dksX0_apronsOf_0 10 rfl rfl)
theorem dX0_apronsOf_13 : decode cX0_apronsOf 13 = .ok (.aload_n 0, 1) := dk_42 (dk_at dksX0_apronsOf_0 13 rfl rfl)
theorem dX0_apronsOf_14 : decode cX0_apronsOf 14 = .ok (.aload_n 1, 1) := dk_43 (dk_at dksX0_apronsOf_0 14 rfl rfl)
theorem dX0_apronsOf_15 : decode cX0_apronsOf 15 = .ok (.iload_n 2, 1) := dk_28 (dk_at dksX0_apronsOf_0 15 rfl rfl)
theorem dX0_apronsOf_16 : decode cX0_apronsOf 16 = .ok (.iload_n 3, 1) := dk_29 (dk_at dksX0_apronsOf_0 16 rfl rfl)
theorem dX0_apronsOf_17 : decode cX0_apronsOf 17 = .ok (.iconst 2, 1) := dk_5 (dk_at dksX0_apronsOf_0 17 rfl rfl)
theorem dX0_apronsOf_18 : decode cX0_apronsOf 18 = .ok (.iload 6, 2) := dk_21 6 (dk_at dksX0_apronsOf_0 18 rfl rfl)
theorem dX0_apronsOf_20 : decode cX0_apronsOf 20 = .ok (.invokevirtual 490, 3) := dk_182 1 234 (dk_at dksX0_apronsOf_0 20 rfl rfl)
theorem dX0_apronsOf_23 : decode cX0_apronsOf 23 = .ok (.ifCond .eq 14, 3) := dk_153 0 14 (dk_at dksX0_apronsOf_1 0 rfl rfl)
theorem dX0_apronsOf_26 : decode cX0_apronsOf 26 = .ok (.iload 4, 2) := dk_21 4 (dk_at dksX0_apronsOf_1 3 rfl rfl)
theorem dX0_apronsOf_28 : decode cX0_apronsOf 28 = .ok (.ifCond .eq 6, 3) := dk_153 0 6 (dk_at dksX0_apronsOf_1 5 rfl rfl)
theorem dX0_apronsOf_31 : decode cX0_apronsOf 31 = .ok (.iload 6, 2) := dk_21 6 (dk_at dksX0_apronsOf_1 8 rfl rfl)
theorem dX0_apronsOf_33 : decode cX0_apronsOf 33 = .ok (.ireturn, 1) := dk_172 (dk_at dksX0_apronsOf_1 10 rfl rfl)
theorem dX0_apronsOf_34 : decode cX0_apronsOf 34 = .ok (.iinc 5 1, 3) := dk_132 5 1 (dk_at dksX0_apronsOf_1 11 rfl rfl)
theorem dX0_apronsOf_37 : decode cX0_apronsOf 37 = .ok (.iinc 6 1, 3) := dk_132 6 1 (dk_at dksX0_apronsOf_1 14 rfl rfl)
theorem dX0_apronsOf_40 : decode cX0_apronsOf 40 = .ok (.goto (-34), 3) := dk_167 255 222 (dk_at dksX0_apronsOf_1 17 rfl rfl)
theorem dX0_apronsOf_43 : decode cX0_apronsOf 43 = .ok (.iload 4, 2) := dk_21 4 (dk_at dksX0_apronsOf_1 20 rfl rfl)
theorem dX0_apronsOf_45 : decode cX0_apronsOf 45 = .ok (.ifCond .eq 7, 3) := dk_153 0 7 (dk_at dksX0_apronsOf_2 0 rfl rfl)
theorem dX0_apronsOf_48 : decode cX0_apronsOf 48 = .ok (.iconst (-1), 1) := dk_2 (dk_at dksX0_apronsOf_2 3 rfl rfl)
theorem dX0_apronsOf_49 : decode cX0_apronsOf 49 = .ok (.goto 5, 3) := dk_167 0 5 (dk_at dksX0_apronsOf_2 4 rfl rfl)
theorem dX0_apronsOf_52 : decode cX0_apronsOf 52 = .ok (.iload 5, 2) := dk_21 5 (dk_at dksX0_apronsOf_2 7 rfl rfl)
theorem dX0_apronsOf_54 : decode cX0_apronsOf 54 = .ok (.ireturn, 1) := dk_172 (dk_at dksX0_apronsOf_2 9 rfl rfl)
abbrev cX0_textsOf : ByteArray := prog_1_method_81_code
def yX0_textsOf : MethodName := ⟨RX0, "textsOf", "(Ljava/lang/Object;II)I"⟩
def dkwX0_textsOf_3 : List UInt8 := [181, 1, 99, 25, 7, 191, 21, 5, 172]
abbrev dktX0_textsOf_3 : List UInt8 := dkwX0_textsOf_3 ++ []
def dkwX0_textsOf_2 : List UInt8 := [128, 54, 5, 132, 6, 1, 167, 255, 214, 42, 21, 4, 181, 1, 99, 167, 0, 14, 58, 7, 42, 21, 4]
abbrev dktX0_textsOf_2 : List UInt8 := dkwX0_textsOf_2 ++ dktX0_textsOf_3
def dkwX0_textsOf_1 : List UInt8 := [181, 1, 99, 21, 5, 42, 43, 28, 29, 182, 1, 227, 2, 160, 0, 10, 4, 21, 6, 120, 167, 0, 4, 3]
abbrev dktX0_textsOf_1 : List UInt8 := dkwX0_textsOf_1 ++ dktX0_textsOf_2
def dkwX0_textsOf_0 : List UInt8 := [42, 180, 1, 99, 54, 4, 3, 54, 5, 3, 54, 6, 21, 6, 42, 180, 1, 20, 162, 0, 39, 42, 21, 6]
abbrev dktX0_textsOf_0 : List UInt8 := dkwX0_textsOf_0 ++ dktX0_textsOf_1
theorem dksX0_textsOf_0 : cX0_textsOf.data.toList.drop 0 = dktX0_textsOf_0 := by decide +kernel
theorem dksX0_textsOf_1 : cX0_textsOf.data.toList.drop 24 = dktX0_textsOf_1 := dk_seg dksX0_textsOf_0 24 rfl rfl
theorem dksX0_textsOf_2 : cX0_textsOf.data.toList.drop 48 = dktX0_textsOf_2 := dk_seg dksX0_textsOf_1 24 rfl rfl
theorem dksX0_textsOf_3 : cX0_textsOf.data.toList.drop 71 = dktX0_textsOf_3 := dk_seg dksX0_textsOf_2 23 rfl rfl
theorem dX0_textsOf_0 : decode cX0_textsOf 0 = .ok (.aload_n 0, 1) := dk_42 (dk_at dksX0_textsOf_0 0 rfl rfl)
theorem dX0_textsOf_1 : decode cX0_textsOf 1 = .ok (.getfield 355, 3) := dk_180 1 99 (dk_at dksX0_textsOf_0 1 rfl rfl)
theorem dX0_textsOf_4 : decode cX0_textsOf 4 = .ok (.istore 4, 2) := dk_54 4 (dk_at dksX0_textsOf_0 4 rfl rfl)
theorem dX0_textsOf_6 : decode cX0_textsOf 6 = .ok (.iconst 0, 1) := dk_3 (dk_at dksX0_textsOf_0 6 rfl rfl)
theorem dX0_textsOf_7 : decode cX0_textsOf 7 = .ok (.istore 5, 2) := dk_54 5 (dk_at dksX0_textsOf_0 7 rfl rfl)
theorem dX0_textsOf_9 : decode cX0_textsOf 9 = .ok (.iconst 0, 1) := dk_3 (dk_at dksX0_textsOf_0 9 rfl rfl)
theorem dX0_textsOf_10 : decode cX0_textsOf 10 = .ok (.istore 6, 2) := dk_54 6 (dk_at dksX0_textsOf_0 10 rfl rfl)
theorem dX0_textsOf_12 : decode cX0_textsOf 12 = .ok (.iload 6, 2) := dk_21 6 (dk_at dksX0_textsOf_0 12 rfl rfl)
theorem dX0_textsOf_14 : decode cX0_textsOf 14 = .ok (.aload_n 0, 1) := dk_42 (dk_at dksX0_textsOf_0 14 rfl rfl)
theorem dX0_textsOf_15 : decode cX0_textsOf 15 = .ok (.getfield 276, 3) := dk_180 1 20 (dk_at dksX0_textsOf_0 15 rfl rfl)
theorem dX0_textsOf_18 : decode cX0_textsOf 18 = .ok (.if_icmp .ge 39, 3) := dk_162 0 39 (dk_at dksX0_textsOf_0 18 rfl rfl)
theorem dX0_textsOf_21 : decode cX0_textsOf 21 = .ok (.aload_n 0, 1) := dk_42 (dk_at dksX0_textsOf_0 21 rfl rfl)
theorem dX0_textsOf_22 : decode cX0_textsOf 22 = .ok (.iload 6, 2) := dk_21 6 (dk_at dksX0_textsOf_0 22 rfl rfl)
theorem dX0_textsOf_24 : decode cX0_textsOf 24 = .ok (.putfield 355, 3) := dk_181 1 99 (dk_at dksX0_textsOf_1 0 rfl rfl)
theorem dX0_textsOf_27 : decode cX0_textsOf 27 = .ok (.iload 5, 2) := dk_21 5 (dk_at dksX0_textsOf_1 3 rfl rfl)
theorem dX0_textsOf_29 : decode cX0_textsOf 29 = .ok (.aload_n 0, 1) := dk_42 (dk_at dksX0_textsOf_1 5 rfl rfl)
theorem dX0_textsOf_30 : decode cX0_textsOf 30 = .ok (.aload_n 1, 1) := dk_43 (dk_at dksX0_textsOf_1 6 rfl rfl)
theorem dX0_textsOf_31 : decode cX0_textsOf 31 = .ok (.iload_n 2, 1) := dk_28 (dk_at dksX0_textsOf_1 7 rfl rfl)
theorem dX0_textsOf_32 : decode cX0_textsOf 32 = .ok (.iload_n 3, 1) := dk_29 (dk_at dksX0_textsOf_1 8 rfl rfl)
theorem dX0_textsOf_33 : decode cX0_textsOf 33 = .ok (.invokevirtual 483, 3) := dk_182 1 227 (dk_at dksX0_textsOf_1 9 rfl rfl)
theorem dX0_textsOf_36 : decode cX0_textsOf 36 = .ok (.iconst (-1), 1) := dk_2 (dk_at dksX0_textsOf_1 12 rfl rfl)
theorem dX0_textsOf_37 : decode cX0_textsOf 37 = .ok (.if_icmp .ne 10, 3) := dk_160 0 10 (dk_at dksX0_textsOf_1 13 rfl rfl)
theorem dX0_textsOf_40 : decode cX0_textsOf 40 = .ok (.iconst 1, 1) := dk_4 (dk_at dksX0_textsOf_1 16 rfl rfl)
theorem dX0_textsOf_41 : decode cX0_textsOf 41 = .ok (.iload 6, 2) := dk_21 6 (dk_at dksX0_textsOf_1 17 rfl rfl)
theorem dX0_textsOf_43 : decode cX0_textsOf 43 = .ok (.ishl, 1) := dk_120 (dk_at dksX0_textsOf_1 19 rfl rfl)
theorem dX0_textsOf_44 : decode cX0_textsOf 44 = .ok (.goto 4, 3) := dk_167 0 4 (dk_at dksX0_textsOf_1 20 rfl rfl)
theorem dX0_textsOf_47 : decode cX0_textsOf 47 = .ok (.iconst 0, 1) := dk_3 (dk_at dksX0_textsOf_1 23 rfl rfl)
theorem dX0_textsOf_48 : decode cX0_textsOf 48 = .ok (.ior, 1) := dk_128 (dk_at dksX0_textsOf_2 0 rfl rfl)
theorem dX0_textsOf_49 : decode cX0_textsOf 49 = .ok (.istore 5, 2) := dk_54 5 (dk_at dksX0_textsOf_2 1 rfl rfl)
theorem dX0_textsOf_51 : decode cX0_textsOf 51 = .ok (.iinc 6 1, 3) := dk_132 6 1 (dk_at dksX0_textsOf_2 3 rfl rfl)
theorem dX0_textsOf_54 : decode cX0_textsOf 54 = .ok (.goto (-42), 3) := dk_167 255 214 (dk_at dksX0_textsOf_2 6 rfl rfl)
theorem dX0_textsOf_57 : decode cX0_textsOf 57 = .ok (.aload_n 0, 1) := dk_42 (dk_at dksX0_textsOf_2 9 rfl rfl)
theorem dX0_textsOf_58 : decode cX0_textsOf 58 = .ok (.iload 4, 2) := dk_21 4 (dk_at dksX0_textsOf_2 10 rfl rfl)
theorem dX0_textsOf_60 : decode cX0_textsOf 60 = .ok (.putfield 355, 3) := dk_181 1 99 (dk_at dksX0_textsOf_2 12 rfl rfl)
theorem dX0_textsOf_63 : decode cX0_textsOf 63 = .ok (.goto 14, 3) := dk_167 0 14 (dk_at dksX0_textsOf_2 15 rfl rfl)
theorem dX0_textsOf_66 : decode cX0_textsOf 66 = .ok (.astore 7, 2) := dk_58 7 (dk_at dksX0_textsOf_2 18 rfl rfl)
theorem dX0_textsOf_68 : decode cX0_textsOf 68 = .ok (.aload_n 0, 1) := dk_42 (dk_at dksX0_textsOf_2 20 rfl rfl)
theorem dX0_textsOf_69 : decode cX0_textsOf 69 = .ok (.iload 4, 2) := dk_21 4 (dk_at dksX0_textsOf_2 21 rfl rfl)
theorem dX0_textsOf_71 : decode cX0_textsOf 71 = .ok (.putfield 355, 3) := dk_181 1 99 (dk_at dksX0_textsOf_3 0 rfl rfl)
theorem dX0_textsOf_74 : decode cX0_textsOf 74 = .ok (.aload 7, 2) := dk_25 7 (dk_at dksX0_textsOf_3 3 rfl rfl)
theorem dX0_textsOf_76 : decode cX0_textsOf 76 = .ok (.athrow, 1) := dk_191 (dk_at dksX0_textsOf_3 5 rfl rfl)
theorem dX0_textsOf_77 : decode cX0_textsOf 77 = .ok (.iload 5, 2) := dk_21 5 (dk_at dksX0_textsOf_3 6 rfl rfl)
theorem dX0_textsOf_79 : decode cX0_textsOf 79 = .ok (.ireturn, 1) := dk_172 (dk_at dksX0_textsOf_3 8 rfl rfl)
abbrev cX0_whoseOf : ByteArray := prog_1_method_82_code
def yX0_whoseOf : MethodName := ⟨RX0, "whoseOf", "(Ljava/lang/Object;I)I"⟩
def dkwX0_whoseOf_1 : List UInt8 := [160, 0, 10, 4, 21, 4, 120, 167, 0, 4, 3, 128, 62, 132, 4, 1, 167, 255, 221, 29, 172]
abbrev dktX0_whoseOf_1 : List UInt8 := dkwX0_whoseOf_1 ++ []
def dkwX0_whoseOf_0 : List UInt8 := [3, 62, 3, 54, 4, 21, 4, 42, 180, 0, 18, 162, 0, 32, 29, 42, 43, 21, 4, 28, 182, 1, 227, 2]
abbrev dktX0_whoseOf_0 : List UInt8 := dkwX0_whoseOf_0 ++ dktX0_whoseOf_1
theorem dksX0_whoseOf_0 : cX0_whoseOf.data.toList.drop 0 = dktX0_whoseOf_0 := by decide +kernel
theorem dksX0_whoseOf_1 : cX0_whoseOf.data.toList.drop 24 = dktX0_whoseOf_1 := dk_seg dksX0_whoseOf_0 24 rfl rfl
theorem dX0_whoseOf_0 : decode cX0_whoseOf 0 = .ok (.iconst 0, 1) := dk_3 (dk_at dksX0_whoseOf_0 0 rfl rfl)
theorem dX0_whoseOf_1 : decode cX0_whoseOf 1 = .ok (.istore_n 3, 1) := dk_62 (dk_at dksX0_whoseOf_0 1 rfl rfl)
theorem dX0_whoseOf_2 : decode cX0_whoseOf 2 = .ok (.iconst 0, 1) := dk_3 (dk_at dksX0_whoseOf_0 2 rfl rfl)
theorem dX0_whoseOf_3 : decode cX0_whoseOf 3 = .ok (.istore 4, 2) := dk_54 4 (dk_at dksX0_whoseOf_0 3 rfl rfl)
theorem dX0_whoseOf_5 : decode cX0_whoseOf 5 = .ok (.iload 4, 2) := dk_21 4 (dk_at dksX0_whoseOf_0 5 rfl rfl)
theorem dX0_whoseOf_7 : decode cX0_whoseOf 7 = .ok (.aload_n 0, 1) := dk_42 (dk_at dksX0_whoseOf_0 7 rfl rfl)
theorem dX0_whoseOf_8 : decode cX0_whoseOf 8 = .ok (.getfield 18, 3) := dk_180 0 18 (dk_at dksX0_whoseOf_0 8 rfl rfl)
theorem dX0_whoseOf_11 : decode cX0_whoseOf 11 = .ok (.if_icmp .ge 32, 3) := dk_162 0 32 (dk_at dksX0_whoseOf_0 11 rfl rfl)
theorem dX0_whoseOf_14 : decode cX0_whoseOf 14 = .ok (.iload_n 3, 1) := dk_29 (dk_at dksX0_whoseOf_0 14 rfl rfl)
theorem dX0_whoseOf_15 : decode cX0_whoseOf 15 = .ok (.aload_n 0, 1) := dk_42 (dk_at dksX0_whoseOf_0 15 rfl rfl)
theorem dX0_whoseOf_16 : decode cX0_whoseOf 16 = .ok (.aload_n 1, 1) := dk_43 (dk_at dksX0_whoseOf_0 16 rfl rfl)
theorem dX0_whoseOf_17 : decode cX0_whoseOf 17 = .ok (.iload 4, 2) := dk_21 4 (dk_at dksX0_whoseOf_0 17 rfl rfl)
theorem dX0_whoseOf_19 : decode cX0_whoseOf 19 = .ok (.iload_n 2, 1) := dk_28 (dk_at dksX0_whoseOf_0 19 rfl rfl)
theorem dX0_whoseOf_20 : decode cX0_whoseOf 20 = .ok (.invokevirtual 483, 3) := dk_182 1 227 (dk_at dksX0_whoseOf_0 20 rfl rfl)
theorem dX0_whoseOf_23 : decode cX0_whoseOf 23 = .ok (.iconst (-1), 1) := dk_2 (dk_at dksX0_whoseOf_0 23 rfl rfl)
theorem dX0_whoseOf_24 : decode cX0_whoseOf 24 = .ok (.if_icmp .ne 10, 3) := dk_160 0 10 (dk_at dksX0_whoseOf_1 0 rfl rfl)
theorem dX0_whoseOf_27 : decode cX0_whoseOf 27 = .ok (.iconst 1, 1) := dk_4 (dk_at dksX0_whoseOf_1 3 rfl rfl)
theorem dX0_whoseOf_28 : decode cX0_whoseOf 28 = .ok (.iload 4, 2) := dk_21 4 (dk_at dksX0_whoseOf_1 4 rfl rfl)
theorem dX0_whoseOf_30 : decode cX0_whoseOf 30 = .ok (.ishl, 1) := dk_120 (dk_at dksX0_whoseOf_1 6 rfl rfl)
theorem dX0_whoseOf_31 : decode cX0_whoseOf 31 = .ok (.goto 4, 3) := dk_167 0 4 (dk_at dksX0_whoseOf_1 7 rfl rfl)
theorem dX0_whoseOf_34 : decode cX0_whoseOf 34 = .ok (.iconst 0, 1) := dk_3 (dk_at dksX0_whoseOf_1 10 rfl rfl)
theorem dX0_whoseOf_35 : decode cX0_whoseOf 35 = .ok (.ior, 1) := dk_128 (dk_at dksX0_whoseOf_1 11 rfl rfl)
theorem dX0_whoseOf_36 : decode cX0_whoseOf 36 = .ok (.istore_n 3, 1) := dk_62 (dk_at dksX0_whoseOf_1 12 rfl rfl)
theorem dX0_whoseOf_37 : decode cX0_whoseOf 37 = .ok (.iinc 4 1, 3) := dk_132 4 1 (dk_at dksX0_whoseOf_1 13 rfl rfl)
theorem dX0_whoseOf_40 : decode cX0_whoseOf 40 = .ok (.goto (-35), 3) := dk_167 255 221 (dk_at dksX0_whoseOf_1 16 rfl rfl)
theorem dX0_whoseOf_43 : decode cX0_whoseOf 43 = .ok (.iload_n 3, 1) := dk_29 (dk_at dksX0_whoseOf_1 19 rfl rfl)
theorem dX0_whoseOf_44 : decode cX0_whoseOf 44 = .ok (.ireturn, 1) := dk_172 (dk_at dksX0_whoseOf_1 20 rfl rfl)
abbrev cX0_rowsOf : ByteArray := prog_1_method_83_code
def yX0_rowsOf : MethodName := ⟨RX0, "rowsOf", "(Ljava/lang/Object;I)I"⟩
def dkwX0_rowsOf_3 : List UInt8 := [172]
abbrev dktX0_rowsOf_3 : List UInt8 := dkwX0_rowsOf_3 ++ []
def dkwX0_rowsOf_2 : List UInt8 := [182, 1, 227, 2, 160, 0, 10, 4, 21, 4, 120, 167, 0, 4, 3, 128, 62, 132, 4, 1, 167, 255, 195, 29]
abbrev dktX0_rowsOf_2 : List UInt8 := dkwX0_rowsOf_2 ++ dktX0_rowsOf_3
def dkwX0_rowsOf_1 : List UInt8 := [184, 1, 215, 161, 0, 7, 4, 167, 0, 4, 3, 54, 5, 29, 21, 5, 153, 0, 22, 42, 43, 28, 21, 4]
abbrev dktX0_rowsOf_1 : List UInt8 := dkwX0_rowsOf_1 ++ dktX0_rowsOf_2
def dkwX0_rowsOf_0 : List UInt8 := [3, 62, 3, 54, 4, 21, 4, 7, 162, 0, 61, 42, 21, 4, 182, 0, 109, 43, 43, 184, 1, 211]
abbrev dktX0_rowsOf_0 : List UInt8 := dkwX0_rowsOf_0 ++ dktX0_rowsOf_1
theorem dksX0_rowsOf_0 : cX0_rowsOf.data.toList.drop 0 = dktX0_rowsOf_0 := by decide +kernel
theorem dksX0_rowsOf_1 : cX0_rowsOf.data.toList.drop 22 = dktX0_rowsOf_1 := dk_seg dksX0_rowsOf_0 22 rfl rfl
theorem dksX0_rowsOf_2 : cX0_rowsOf.data.toList.drop 46 = dktX0_rowsOf_2 := dk_seg dksX0_rowsOf_1 24 rfl rfl
theorem dksX0_rowsOf_3 : cX0_rowsOf.data.toList.drop 70 = dktX0_rowsOf_3 := dk_seg dksX0_rowsOf_2 24 rfl rfl
theorem dX0_rowsOf_0 : decode cX0_rowsOf 0 = .ok (.iconst 0, 1) := dk_3 (dk_at dksX0_rowsOf_0 0 rfl rfl)
theorem dX0_rowsOf_1 : decode cX0_rowsOf 1 = .ok (.istore_n 3, 1) := dk_62 (dk_at dksX0_rowsOf_0 1 rfl rfl)
theorem dX0_rowsOf_2 : decode cX0_rowsOf 2 = .ok (.iconst 0, 1) := dk_3 (dk_at dksX0_rowsOf_0 2 rfl rfl)
theorem dX0_rowsOf_3 : decode cX0_rowsOf 3 = .ok (.istore 4, 2) := dk_54 4 (dk_at dksX0_rowsOf_0 3 rfl rfl)
theorem dX0_rowsOf_5 : decode cX0_rowsOf 5 = .ok (.iload 4, 2) := dk_21 4 (dk_at dksX0_rowsOf_0 5 rfl rfl)
theorem dX0_rowsOf_7 : decode cX0_rowsOf 7 = .ok (.iconst 4, 1) := dk_7 (dk_at dksX0_rowsOf_0 7 rfl rfl)
theorem dX0_rowsOf_8 : decode cX0_rowsOf 8 = .ok (.if_icmp .ge 61, 3) := dk_162 0 61 (dk_at dksX0_rowsOf_0 8 rfl rfl)
theorem dX0_rowsOf_11 : decode cX0_rowsOf 11 = .ok (.aload_n 0, 1) := dk_42 (dk_at dksX0_rowsOf_0 11 rfl rfl)
theorem dX0_rowsOf_12 : decode cX0_rowsOf 12 = .ok (.iload 4, 2) := dk_21 4 (dk_at dksX0_rowsOf_0 12 rfl rfl)
theorem dX0_rowsOf_14 : decode cX0_rowsOf 14 = .ok (.invokevirtual 109, 3) := dk_182 0 109 (dk_at dksX0_rowsOf_0 14 rfl rfl)
theorem dX0_rowsOf_17 : decode cX0_rowsOf 17 = .ok (.aload_n 1, 1) := dk_43 (dk_at dksX0_rowsOf_0 17 rfl rfl)
theorem dX0_rowsOf_18 : decode cX0_rowsOf 18 = .ok (.aload_n 1, 1) := dk_43 (dk_at dksX0_rowsOf_0 18 rfl rfl)
theorem dX0_rowsOf_19 : decode cX0_rowsOf 19 = .ok (.invokestatic 467, 3) := dk_184 1 211 (dk_at dksX0_rowsOf_0 19 rfl rfl)
theorem dX0_rowsOf_22 : decode cX0_rowsOf 22 = .ok (.invokestatic 471, 3) := dk_184 1 215 (dk_at dksX0_rowsOf_1 0 rfl rfl)
theorem dX0_rowsOf_25 : decode cX0_rowsOf 25 = .ok (.if_icmp .lt 7, 3) := dk_161 0 7 (dk_at dksX0_rowsOf_1 3 rfl rfl)
theorem dX0_rowsOf_28 : decode cX0_rowsOf 28 = .ok (.iconst 1, 1) := dk_4 (dk_at dksX0_rowsOf_1 6 rfl rfl)
theorem dX0_rowsOf_29 : decode cX0_rowsOf 29 = .ok (.goto 4, 3) := dk_167 0 4 (dk_at dksX0_rowsOf_1 7 rfl rfl)
theorem dX0_rowsOf_32 : decode cX0_rowsOf 32 = .ok (.iconst 0, 1) := dk_3 (dk_at dksX0_rowsOf_1 10 rfl rfl)
theorem dX0_rowsOf_33 : decode cX0_rowsOf 33 = .ok (.istore 5, 2) := dk_54 5 (dk_at dksX0_rowsOf_1 11 rfl rfl)
theorem dX0_rowsOf_35 : decode cX0_rowsOf 35 = .ok (.iload_n 3, 1) := dk_29 (dk_at dksX0_rowsOf_1 13 rfl rfl)
theorem dX0_rowsOf_36 : decode cX0_rowsOf 36 = .ok (.iload 5, 2) := dk_21 5 (dk_at dksX0_rowsOf_1 14 rfl rfl)
theorem dX0_rowsOf_38 : decode cX0_rowsOf 38 = .ok (.ifCond .eq 22, 3) := dk_153 0 22 (dk_at dksX0_rowsOf_1 16 rfl rfl)
theorem dX0_rowsOf_41 : decode cX0_rowsOf 41 = .ok (.aload_n 0, 1) := dk_42 (dk_at dksX0_rowsOf_1 19 rfl rfl)
theorem dX0_rowsOf_42 : decode cX0_rowsOf 42 = .ok (.aload_n 1, 1) := dk_43 (dk_at dksX0_rowsOf_1 20 rfl rfl)
theorem dX0_rowsOf_43 : decode cX0_rowsOf 43 = .ok (.iload_n 2, 1) := dk_28 (dk_at dksX0_rowsOf_1 21 rfl rfl)
theorem dX0_rowsOf_44 : decode cX0_rowsOf 44 = .ok (.iload 4, 2) := dk_21 4 (dk_at dksX0_rowsOf_1 22 rfl rfl)
theorem dX0_rowsOf_46 : decode cX0_rowsOf 46 = .ok (.invokevirtual 483, 3) := dk_182 1 227 (dk_at dksX0_rowsOf_2 0 rfl rfl)
theorem dX0_rowsOf_49 : decode cX0_rowsOf 49 = .ok (.iconst (-1), 1) := dk_2 (dk_at dksX0_rowsOf_2 3 rfl rfl)
theorem dX0_rowsOf_50 : decode cX0_rowsOf 50 = .ok (.if_icmp .ne 10, 3) := dk_160 0 10 (dk_at dksX0_rowsOf_2 4 rfl rfl)
theorem dX0_rowsOf_53 : decode cX0_rowsOf 53 = .ok (.iconst 1, 1) := dk_4 (dk_at dksX0_rowsOf_2 7 rfl rfl)
theorem dX0_rowsOf_54 : decode cX0_rowsOf 54 = .ok (.iload 4, 2) := dk_21 4 (dk_at dksX0_rowsOf_2 8 rfl rfl)
theorem dX0_rowsOf_56 : decode cX0_rowsOf 56 = .ok (.ishl, 1) := dk_120 (dk_at dksX0_rowsOf_2 10 rfl rfl)
theorem dX0_rowsOf_57 : decode cX0_rowsOf 57 = .ok (.goto 4, 3) := dk_167 0 4 (dk_at dksX0_rowsOf_2 11 rfl rfl)
theorem dX0_rowsOf_60 : decode cX0_rowsOf 60 = .ok (.iconst 0, 1) := dk_3 (dk_at dksX0_rowsOf_2 14 rfl rfl)
theorem dX0_rowsOf_61 : decode cX0_rowsOf 61 = .ok (.ior, 1) := dk_128 (dk_at dksX0_rowsOf_2 15 rfl rfl)
theorem dX0_rowsOf_62 : decode cX0_rowsOf 62 = .ok (.istore_n 3, 1) := dk_62 (dk_at dksX0_rowsOf_2 16 rfl rfl)
theorem dX0_rowsOf_63 : decode cX0_rowsOf 63 = .ok (.iinc 4 1, 3) := dk_132 4 1 (dk_at dksX0_rowsOf_2 17 rfl rfl)
theorem dX0_rowsOf_66 : decode cX0_rowsOf 66 = .ok (.goto (-61), 3) := dk_167 255 195 (dk_at dksX0_rowsOf_2 20 rfl rfl)
theorem dX0_rowsOf_69 : decode cX0_rowsOf 69 = .ok (.iload_n 3, 1) := dk_29 (dk_at dksX0_rowsOf_2 23 rfl rfl)
theorem dX0_rowsOf_70 : decode cX0_rowsOf 70 = .ok (.ireturn, 1) := dk_172 (dk_at dksX0_rowsOf_3 0 rfl rfl)
abbrev cX0_film : ByteArray := prog_1_method_85_code
def yX0_film : MethodName := ⟨RX0, "film", "(III)I"⟩
def dkwX0_film_3 : List UInt8 := [132, 4, 1, 167, 255, 229, 42, 180, 1, 146, 172]
abbrev dktX0_film_3 : List UInt8 := dkwX0_film_3 ++ []
def dkwX0_film_2 : List UInt8 := [21, 4, 42, 180, 1, 146, 162, 0, 24, 42, 27, 21, 4, 42, 180, 1, 55, 21, 4, 46, 182, 2, 12, 87]
abbrev dktX0_film_2 : List UInt8 := dkwX0_film_2 ++ dktX0_film_3
def dkwX0_film_1 : List UInt8 := [172, 42, 28, 29, 3, 182, 1, 172, 87, 42, 27, 3, 42, 180, 1, 146, 182, 2, 9, 87, 3, 54, 4]
abbrev dktX0_film_1 : List UInt8 := dkwX0_film_1 ++ dktX0_film_2
def dkwX0_film_0 : List UInt8 := [27, 184, 1, 238, 153, 0, 18, 42, 28, 182, 0, 79, 153, 0, 10, 29, 184, 0, 55, 154, 0, 6, 16, 254]
abbrev dktX0_film_0 : List UInt8 := dkwX0_film_0 ++ dktX0_film_1
theorem dksX0_film_0 : cX0_film.data.toList.drop 0 = dktX0_film_0 := by decide +kernel
theorem dksX0_film_1 : cX0_film.data.toList.drop 24 = dktX0_film_1 := dk_seg dksX0_film_0 24 rfl rfl
theorem dksX0_film_2 : cX0_film.data.toList.drop 47 = dktX0_film_2 := dk_seg dksX0_film_1 23 rfl rfl
theorem dksX0_film_3 : cX0_film.data.toList.drop 71 = dktX0_film_3 := dk_seg dksX0_film_2 24 rfl rfl
theorem dX0_film_0 : decode cX0_film 0 = .ok (.iload_n 1, 1) := dk_27 (dk_at dksX0_film_0 0 rfl rfl)
theorem dX0_film_1 : decode cX0_film 1 = .ok (.invokestatic 494, 3) := dk_184 1 238 (dk_at dksX0_film_0 1 rfl rfl)
theorem dX0_film_4 : decode cX0_film 4 = .ok (.ifCond .eq 18, 3) := dk_153 0 18 (dk_at dksX0_film_0 4 rfl rfl)
theorem dX0_film_7 : decode cX0_film 7 = .ok (.aload_n 0, 1) := dk_42 (dk_at dksX0_film_0 7 rfl rfl)
theorem dX0_film_8 : decode cX0_film 8 = .ok (.iload_n 2, 1) := dk_28 (dk_at dksX0_film_0 8 rfl rfl)
theorem dX0_film_9 : decode cX0_film 9 = .ok (.invokevirtual 79, 3) := dk_182 0 79 (dk_at dksX0_film_0 9 rfl rfl)
theorem dX0_film_12 : decode cX0_film 12 = .ok (.ifCond .eq 10, 3) := dk_153 0 10 (dk_at dksX0_film_0 12 rfl rfl)
theorem dX0_film_15 : decode cX0_film 15 = .ok (.iload_n 3, 1) := dk_29 (dk_at dksX0_film_0 15 rfl rfl)
theorem dX0_film_16 : decode cX0_film 16 = .ok (.invokestatic 55, 3) := dk_184 0 55 (dk_at dksX0_film_0 16 rfl rfl)
theorem dX0_film_19 : decode cX0_film 19 = .ok (.ifCond .ne 6, 3) := dk_154 0 6 (dk_at dksX0_film_0 19 rfl rfl)
theorem dX0_film_22 : decode cX0_film 22 = .ok (.bipush (-2), 2) := dk_16 254 (dk_at dksX0_film_0 22 rfl rfl)
theorem dX0_film_24 : decode cX0_film 24 = .ok (.ireturn, 1) := dk_172 (dk_at dksX0_film_1 0 rfl rfl)
theorem dX0_film_25 : decode cX0_film 25 = .ok (.aload_n 0, 1) := dk_42 (dk_at dksX0_film_1 1 rfl rfl)
theorem dX0_film_26 : decode cX0_film 26 = .ok (.iload_n 2, 1) := dk_28 (dk_at dksX0_film_1 2 rfl rfl)
theorem dX0_film_27 : decode cX0_film 27 = .ok (.iload_n 3, 1) := dk_29 (dk_at dksX0_film_1 3 rfl rfl)
theorem dX0_film_28 : decode cX0_film 28 = .ok (.iconst 0, 1) := dk_3 (dk_at dksX0_film_1 4 rfl rfl)
theorem dX0_film_29 : decode cX0_film 29 = .ok (.invokevirtual 428, 3) := dk_182 1 172 (dk_at dksX0_film_1 5 rfl rfl)
theorem dX0_film_32 : decode cX0_film 32 = .ok (.pop, 1) := dk_87 (dk_at dksX0_film_1 8 rfl rfl)
theorem dX0_film_33 : decode cX0_film 33 = .ok (.aload_n 0, 1) := dk_42 (dk_at dksX0_film_1 9 rfl rfl)
theorem dX0_film_34 : decode cX0_film 34 = .ok (.iload_n 1, 1) := dk_27 (dk_at dksX0_film_1 10 rfl rfl)
theorem dX0_film_35 : decode cX0_film 35 = .ok (.iconst 0, 1) := dk_3 (dk_at dksX0_film_1 11 rfl rfl)
theorem dX0_film_36 : decode cX0_film 36 = .ok (.aload_n 0, 1) := dk_42 (dk_at dksX0_film_1 12 rfl rfl)
theorem dX0_film_37 : decode cX0_film 37 = .ok (.getfield 402, 3) := dk_180 1 146 (dk_at dksX0_film_1 13 rfl rfl)
theorem dX0_film_40 : decode cX0_film 40 = .ok (.invokevirtual 521, 3) := dk_182 2 9 (dk_at dksX0_film_1 16 rfl rfl)
theorem dX0_film_43 : decode cX0_film 43 = .ok (.pop, 1) := dk_87 (dk_at dksX0_film_1 19 rfl rfl)
theorem dX0_film_44 : decode cX0_film 44 = .ok (.iconst 0, 1) := dk_3 (dk_at dksX0_film_1 20 rfl rfl)
theorem dX0_film_45 : decode cX0_film 45 = .ok (.istore 4, 2) := dk_54 4 (dk_at dksX0_film_1 21 rfl rfl)
theorem dX0_film_47 : decode cX0_film 47 = .ok (.iload 4, 2) := dk_21 4 (dk_at dksX0_film_2 0 rfl rfl)
theorem dX0_film_49 : decode cX0_film 49 = .ok (.aload_n 0, 1) := dk_42 (dk_at dksX0_film_2 2 rfl rfl)
theorem dX0_film_50 : decode cX0_film 50 = .ok (.getfield 402, 3) := dk_180 1 146 (dk_at dksX0_film_2 3 rfl rfl)
theorem dX0_film_53 : decode cX0_film 53 = .ok (.if_icmp .ge 24, 3) := dk_162 0 24 (dk_at dksX0_film_2 6 rfl rfl)
theorem dX0_film_56 : decode cX0_film 56 = .ok (.aload_n 0, 1) := dk_42 (dk_at dksX0_film_2 9 rfl rfl)
theorem dX0_film_57 : decode cX0_film 57 = .ok (.iload_n 1, 1) := dk_27 (dk_at dksX0_film_2 10 rfl rfl)
theorem dX0_film_58 : decode cX0_film 58 = .ok (.iload 4, 2) := dk_21 4 (dk_at dksX0_film_2 11 rfl rfl)
theorem dX0_film_60 : decode cX0_film 60 = .ok (.aload_n 0, 1) := dk_42 (dk_at dksX0_film_2 13 rfl rfl)
theorem dX0_film_61 : decode cX0_film 61 = .ok (.getfield 311, 3) := dk_180 1 55 (dk_at dksX0_film_2 14 rfl rfl)
theorem dX0_film_64 : decode cX0_film 64 = .ok (.iload 4, 2) := dk_21 4 (dk_at dksX0_film_2 17 rfl rfl)
theorem dX0_film_66 : decode cX0_film 66 = .ok (.iaload, 1) := dk_46 (dk_at dksX0_film_2 19 rfl rfl)
theorem dX0_film_67 : decode cX0_film 67 = .ok (.invokevirtual 524, 3) := dk_182 2 12 (dk_at dksX0_film_2 20 rfl rfl)
theorem dX0_film_70 : decode cX0_film 70 = .ok (.pop, 1) := dk_87 (dk_at dksX0_film_2 23 rfl rfl)
theorem dX0_film_71 : decode cX0_film 71 = .ok (.iinc 4 1, 3) := dk_132 4 1 (dk_at dksX0_film_3 0 rfl rfl)
theorem dX0_film_74 : decode cX0_film 74 = .ok (.goto (-27), 3) := dk_167 255 229 (dk_at dksX0_film_3 3 rfl rfl)
theorem dX0_film_77 : decode cX0_film 77 = .ok (.aload_n 0, 1) := dk_42 (dk_at dksX0_film_3 6 rfl rfl)
theorem dX0_film_78 : decode cX0_film 78 = .ok (.getfield 402, 3) := dk_180 1 146 (dk_at dksX0_film_3 7 rfl rfl)
theorem dX0_film_81 : decode cX0_film 81 = .ok (.ireturn, 1) := dk_172 (dk_at dksX0_film_3 10 rfl rfl)
abbrev cX0_sheet : ByteArray := prog_1_method_94_code
def yX0_sheet : MethodName := ⟨RX0, "sheet", "(III)I"⟩
def dkwX0_sheet_3 : List UInt8 := [16, 242, 172]
abbrev dktX0_sheet_3 : List UInt8 := dkwX0_sheet_3 ++ []
def dkwX0_sheet_2 : List UInt8 := [181, 1, 243, 4, 172, 42, 180, 1, 86, 27, 50, 28, 29, 184, 2, 26, 181, 1, 243, 4, 172, 58, 4]
abbrev dktX0_sheet_2 : List UInt8 := dkwX0_sheet_2 ++ dktX0_sheet_3
def dkwX0_sheet_1 : List UInt8 := [159, 0, 12, 29, 16, 40, 164, 0, 6, 16, 254, 172, 28, 2, 160, 0, 15, 42, 180, 1, 86, 27, 50, 1]
abbrev dktX0_sheet_1 : List UInt8 := dkwX0_sheet_1 ++ dktX0_sheet_2
def dkwX0_sheet_0 : List UInt8 := [27, 184, 1, 238, 153, 0, 28, 28, 133, 20, 2, 22, 20, 2, 24, 184, 0, 14, 153, 0, 14, 28, 2]
abbrev dktX0_sheet_0 : List UInt8 := dkwX0_sheet_0 ++ dktX0_sheet_1
theorem dksX0_sheet_0 : cX0_sheet.data.toList.drop 0 = dktX0_sheet_0 := by decide +kernel
theorem dksX0_sheet_1 : cX0_sheet.data.toList.drop 23 = dktX0_sheet_1 := dk_seg dksX0_sheet_0 23 rfl rfl
theorem dksX0_sheet_2 : cX0_sheet.data.toList.drop 47 = dktX0_sheet_2 := dk_seg dksX0_sheet_1 24 rfl rfl
theorem dksX0_sheet_3 : cX0_sheet.data.toList.drop 70 = dktX0_sheet_3 := dk_seg dksX0_sheet_2 23 rfl rfl
theorem dX0_sheet_0 : decode cX0_sheet 0 = .ok (.iload_n 1, 1) := dk_27 (dk_at dksX0_sheet_0 0 rfl rfl)
theorem dX0_sheet_1 : decode cX0_sheet 1 = .ok (.invokestatic 494, 3) := dk_184 1 238 (dk_at dksX0_sheet_0 1 rfl rfl)
theorem dX0_sheet_4 : decode cX0_sheet 4 = .ok (.ifCond .eq 28, 3) := dk_153 0 28 (dk_at dksX0_sheet_0 4 rfl rfl)
theorem dX0_sheet_7 : decode cX0_sheet 7 = .ok (.iload_n 2, 1) := dk_28 (dk_at dksX0_sheet_0 7 rfl rfl)
theorem dX0_sheet_8 : decode cX0_sheet 8 = .ok (.i2l, 1) := dk_133 (dk_at dksX0_sheet_0 8 rfl rfl)
theorem dX0_sheet_9 : decode cX0_sheet 9 = .ok (.ldc2_w 534, 3) := dk_20 2 22 (dk_at dksX0_sheet_0 9 rfl rfl)
theorem dX0_sheet_12 : decode cX0_sheet 12 = .ok (.ldc2_w 536, 3) := dk_20 2 24 (dk_at dksX0_sheet_0 12 rfl rfl)
theorem dX0_sheet_15 : decode cX0_sheet 15 = .ok (.invokestatic 14, 3) := dk_184 0 14 (dk_at dksX0_sheet_0 15 rfl rfl)
theorem dX0_sheet_18 : decode cX0_sheet 18 = .ok (.ifCond .eq 14, 3) := dk_153 0 14 (dk_at dksX0_sheet_0 18 rfl rfl)
theorem dX0_sheet_21 : decode cX0_sheet 21 = .ok (.iload_n 2, 1) := dk_28 (dk_at dksX0_sheet_0 21 rfl rfl)
theorem dX0_sheet_22 : decode cX0_sheet 22 = .ok (.iconst (-1), 1) := dk_2 (dk_at dksX0_sheet_0 22 rfl rfl)
theorem dX0_sheet_23 : decode cX0_sheet 23 = .ok (.if_icmp .eq 12, 3) := dk_159 0 12 (dk_at dksX0_sheet_1 0 rfl rfl)
theorem dX0_sheet_26 : decode cX0_sheet 26 = .ok (.iload_n 3, 1) := dk_29 (dk_at dksX0_sheet_1 3 rfl rfl)
theorem dX0_sheet_27 : decode cX0_sheet 27 = .ok (.bipush 40, 2) := dk_16 40 (dk_at dksX0_sheet_1 4 rfl rfl)
theorem dX0_sheet_29 : decode cX0_sheet 29 = .ok (.if_icmp .le 6, 3) := dk_164 0 6 (dk_at dksX0_sheet_1 6 rfl rfl)
theorem dX0_sheet_32 : decode cX0_sheet 32 = .ok (.bipush (-2), 2) := dk_16 254 (dk_at dksX0_sheet_1 9 rfl rfl)
theorem dX0_sheet_34 : decode cX0_sheet 34 = .ok (.ireturn, 1) := dk_172 (dk_at dksX0_sheet_1 11 rfl rfl)
theorem dX0_sheet_35 : decode cX0_sheet 35 = .ok (.iload_n 2, 1) := dk_28 (dk_at dksX0_sheet_1 12 rfl rfl)
theorem dX0_sheet_36 : decode cX0_sheet 36 = .ok (.iconst (-1), 1) := dk_2 (dk_at dksX0_sheet_1 13 rfl rfl)
theorem dX0_sheet_37 : decode cX0_sheet 37 = .ok (.if_icmp .ne 15, 3) := dk_160 0 15 (dk_at dksX0_sheet_1 14 rfl rfl)
theorem dX0_sheet_40 : decode cX0_sheet 40 = .ok (.aload_n 0, 1) := dk_42 (dk_at dksX0_sheet_1 17 rfl rfl)
theorem dX0_sheet_41 : decode cX0_sheet 41 = .ok (.getfield 342, 3) := dk_180 1 86 (dk_at dksX0_sheet_1 18 rfl rfl)
theorem dX0_sheet_44 : decode cX0_sheet 44 = .ok (.iload_n 1, 1) := dk_27 (dk_at dksX0_sheet_1 21 rfl rfl)
theorem dX0_sheet_45 : decode cX0_sheet 45 = .ok (.aaload, 1) := dk_50 (dk_at dksX0_sheet_1 22 rfl rfl)
theorem dX0_sheet_46 : decode cX0_sheet 46 = .ok (.aconst_null, 1) := dk_1 (dk_at dksX0_sheet_1 23 rfl rfl)
theorem dX0_sheet_47 : decode cX0_sheet 47 = .ok (.putfield 499, 3) := dk_181 1 243 (dk_at dksX0_sheet_2 0 rfl rfl)
theorem dX0_sheet_50 : decode cX0_sheet 50 = .ok (.iconst 1, 1) := dk_4 (dk_at dksX0_sheet_2 3 rfl rfl)
theorem dX0_sheet_51 : decode cX0_sheet 51 = .ok (.ireturn, 1) := dk_172 (dk_at dksX0_sheet_2 4 rfl rfl)
theorem dX0_sheet_52 : decode cX0_sheet 52 = .ok (.aload_n 0, 1) := dk_42 (dk_at dksX0_sheet_2 5 rfl rfl)
theorem dX0_sheet_53 : decode cX0_sheet 53 = .ok (.getfield 342, 3) := dk_180 1 86 (dk_at dksX0_sheet_2 6 rfl rfl)
theorem dX0_sheet_56 : decode cX0_sheet 56 = .ok (.iload_n 1, 1) := dk_27 (dk_at dksX0_sheet_2 9 rfl rfl)
theorem dX0_sheet_57 : decode cX0_sheet 57 = .ok (.aaload, 1) := dk_50 (dk_at dksX0_sheet_2 10 rfl rfl)
theorem dX0_sheet_58 : decode cX0_sheet 58 = .ok (.iload_n 2, 1) := dk_28 (dk_at dksX0_sheet_2 11 rfl rfl)
theorem dX0_sheet_59 : decode cX0_sheet 59 = .ok (.iload_n 3, 1) := dk_29 (dk_at dksX0_sheet_2 12 rfl rfl)
theorem dX0_sheet_60 : decode cX0_sheet 60 = .ok (.invokestatic 538, 3) := dk_184 2 26 (dk_at dksX0_sheet_2 13 rfl rfl)
theorem dX0_sheet_63 : decode cX0_sheet 63 = .ok (.putfield 499, 3) := dk_181 1 243 (dk_at dksX0_sheet_2 16 rfl rfl)
theorem dX0_sheet_66 : decode cX0_sheet 66 = .ok (.iconst 1, 1) := dk_4 (dk_at dksX0_sheet_2 19 rfl rfl)
theorem dX0_sheet_67 : decode cX0_sheet 67 = .ok (.ireturn, 1) := dk_172 (dk_at dksX0_sheet_2 20 rfl rfl)
theorem dX0_sheet_68 : decode cX0_sheet 68 = .ok (.astore 4, 2) := dk_58 4 (dk_at dksX0_sheet_2 21 rfl rfl)
theorem dX0_sheet_70 : decode cX0_sheet 70 = .ok (.bipush (-14), 2) := dk_16 242 (dk_at dksX0_sheet_3 0 rfl rfl)
theorem dX0_sheet_72 : decode cX0_sheet 72 = .ok (.ireturn, 1) := dk_172 (dk_at dksX0_sheet_3 2 rfl rfl)
abbrev cX0_rowOf : ByteArray := prog_1_method_93_code
def yX0_rowOf : MethodName := ⟨RX0, "rowOf", "(II)Ljava/lang/Object;"⟩
def dkwX0_rowOf_2 : List UInt8 := [27, 188, 8, 176, 27, 188, 9, 176, 27, 188, 10, 176]
abbrev dktX0_rowOf_2 : List UInt8 := dkwX0_rowOf_2 ++ []
def dkwX0_rowOf_1 : List UInt8 := [171, 0, 0, 0, 0, 0, 35, 0, 0, 0, 2, 0, 0, 0, 0, 0, 0, 0, 27, 0, 0, 0, 1, 0, 0, 0, 31]
abbrev dktX0_rowOf_1 : List UInt8 := dkwX0_rowOf_1 ++ dktX0_rowOf_2
def dkwX0_rowOf_0 : List UInt8 := [26]
abbrev dktX0_rowOf_0 : List UInt8 := dkwX0_rowOf_0 ++ dktX0_rowOf_1
theorem dksX0_rowOf_0 : cX0_rowOf.data.toList.drop 0 = dktX0_rowOf_0 := by decide +kernel
theorem dksX0_rowOf_1 : cX0_rowOf.data.toList.drop 1 = dktX0_rowOf_1 := dk_seg dksX0_rowOf_0 1 rfl rfl
theorem dksX0_rowOf_2 : cX0_rowOf.data.toList.drop 28 = dktX0_rowOf_2 := dk_seg dksX0_rowOf_1 27 rfl rfl
theorem dX0_rowOf_0 : decode cX0_rowOf 0 = .ok (.iload_n 0, 1) := dk_26 (dk_at dksX0_rowOf_0 0 rfl rfl)
theorem dX0_rowOf_1 : decode cX0_rowOf 1 = .ok (.lookupswitch 35 #[(0, 27), (1, 31)], 27) := by decide +kernel
theorem dX0_rowOf_28 : decode cX0_rowOf 28 = .ok (.iload_n 1, 1) := dk_27 (dk_at dksX0_rowOf_2 0 rfl rfl)
theorem dX0_rowOf_29 : decode cX0_rowOf 29 = .ok (.newarray .byte, 2) := dk_188_8 (dk_at dksX0_rowOf_2 1 rfl rfl)
theorem dX0_rowOf_31 : decode cX0_rowOf 31 = .ok (.areturn, 1) := dk_176 (dk_at dksX0_rowOf_2 3 rfl rfl)
theorem dX0_rowOf_32 : decode cX0_rowOf 32 = .ok (.iload_n 1, 1) := dk_27 (dk_at dksX0_rowOf_2 4 rfl rfl)
theorem dX0_rowOf_33 : decode cX0_rowOf 33 = .ok (.newarray .short, 2) := dk_188_9 (dk_at dksX0_rowOf_2 5 rfl rfl)
theorem dX0_rowOf_35 : decode cX0_rowOf 35 = .ok (.areturn, 1) := dk_176 (dk_at dksX0_rowOf_2 7 rfl rfl)
theorem dX0_rowOf_36 : decode cX0_rowOf 36 = .ok (.iload_n 1, 1) := dk_27 (dk_at dksX0_rowOf_2 8 rfl rfl)
theorem dX0_rowOf_37 : decode cX0_rowOf 37 = .ok (.newarray .int, 2) := dk_188_10 (dk_at dksX0_rowOf_2 9 rfl rfl)
theorem dX0_rowOf_39 : decode cX0_rowOf 39 = .ok (.areturn, 1) := dk_176 (dk_at dksX0_rowOf_2 11 rfl rfl)
abbrev cX0_cell : ByteArray := prog_1_method_96_code
def yX0_cell : MethodName := ⟨RX0, "cell", "(III)I"⟩
def dkwX0_cell_1 : List UInt8 := [172, 58, 4, 16, 245, 172, 58, 4, 16, 244, 172]
abbrev dktX0_cell_1 : List UInt8 := dkwX0_cell_1 ++ []
def dkwX0_cell_0 : List UInt8 := [27, 184, 1, 238, 154, 0, 6, 16, 254, 172, 42, 180, 1, 86, 27, 50, 180, 1, 243, 28, 29, 184, 2, 39]
abbrev dktX0_cell_0 : List UInt8 := dkwX0_cell_0 ++ dktX0_cell_1
theorem dksX0_cell_0 : cX0_cell.data.toList.drop 0 = dktX0_cell_0 := by decide +kernel
theorem dksX0_cell_1 : cX0_cell.data.toList.drop 24 = dktX0_cell_1 := dk_seg dksX0_cell_0 24 rfl rfl
theorem dX0_cell_0 : decode cX0_cell 0 = .ok (.iload_n 1, 1) := dk_27 (dk_at dksX0_cell_0 0 rfl rfl)
theorem dX0_cell_1 : decode cX0_cell 1 = .ok (.invokestatic 494, 3) := dk_184 1 238 (dk_at dksX0_cell_0 1 rfl rfl)
theorem dX0_cell_4 : decode cX0_cell 4 = .ok (.ifCond .ne 6, 3) := dk_154 0 6 (dk_at dksX0_cell_0 4 rfl rfl)
theorem dX0_cell_7 : decode cX0_cell 7 = .ok (.bipush (-2), 2) := dk_16 254 (dk_at dksX0_cell_0 7 rfl rfl)
theorem dX0_cell_9 : decode cX0_cell 9 = .ok (.ireturn, 1) := dk_172 (dk_at dksX0_cell_0 9 rfl rfl)
theorem dX0_cell_10 : decode cX0_cell 10 = .ok (.aload_n 0, 1) := dk_42 (dk_at dksX0_cell_0 10 rfl rfl)
theorem dX0_cell_11 : decode cX0_cell 11 = .ok (.getfield 342, 3) := dk_180 1 86 (dk_at dksX0_cell_0 11 rfl rfl)
theorem dX0_cell_14 : decode cX0_cell 14 = .ok (.iload_n 1, 1) := dk_27 (dk_at dksX0_cell_0 14 rfl rfl)
theorem dX0_cell_15 : decode cX0_cell 15 = .ok (.aaload, 1) := dk_50 (dk_at dksX0_cell_0 15 rfl rfl)
theorem dX0_cell_16 : decode cX0_cell 16 = .ok (.getfield 499, 3) := dk_180 1 243 (dk_at dksX0_cell_0 16 rfl rfl)
theorem dX0_cell_19 : decode cX0_cell 19 = .ok (.iload_n 2, 1) := dk_28 (dk_at dksX0_cell_0 19 rfl rfl)
theorem dX0_cell_20 : decode cX0_cell 20 = .ok (.iload_n 3, 1) := dk_29 (dk_at dksX0_cell_0 20 rfl rfl)
theorem dX0_cell_21 : decode cX0_cell 21 = .ok (.invokestatic 551, 3) := dk_184 2 39 (dk_at dksX0_cell_0 21 rfl rfl)
theorem dX0_cell_24 : decode cX0_cell 24 = .ok (.ireturn, 1) := dk_172 (dk_at dksX0_cell_1 0 rfl rfl)
theorem dX0_cell_25 : decode cX0_cell 25 = .ok (.astore 4, 2) := dk_58 4 (dk_at dksX0_cell_1 1 rfl rfl)
theorem dX0_cell_27 : decode cX0_cell 27 = .ok (.bipush (-11), 2) := dk_16 245 (dk_at dksX0_cell_1 3 rfl rfl)
theorem dX0_cell_29 : decode cX0_cell 29 = .ok (.ireturn, 1) := dk_172 (dk_at dksX0_cell_1 5 rfl rfl)
theorem dX0_cell_30 : decode cX0_cell 30 = .ok (.astore 4, 2) := dk_58 4 (dk_at dksX0_cell_1 6 rfl rfl)
theorem dX0_cell_32 : decode cX0_cell 32 = .ok (.bipush (-12), 2) := dk_16 244 (dk_at dksX0_cell_1 8 rfl rfl)
theorem dX0_cell_34 : decode cX0_cell 34 = .ok (.ireturn, 1) := dk_172 (dk_at dksX0_cell_1 10 rfl rfl)
abbrev cX0_put : ByteArray := prog_1_method_95_code
def yX0_put : MethodName := ⟨RX0, "put", "(Ljava/lang/Object;II)I"⟩
def dkwX0_put_2 : List UInt8 := [28, 147, 86, 167, 0, 19, 27, 42, 192, 2, 38, 190, 184, 2, 33, 42, 192, 2, 38, 27, 28, 79, 4, 172]
abbrev dktX0_put_2 : List UInt8 := dkwX0_put_2 ++ []
def dkwX0_put_1 : List UInt8 := [167, 0, 46, 42, 193, 2, 36, 153, 0, 23, 27, 42, 192, 2, 36, 190, 184, 2, 33, 42, 192, 2, 36, 27]
abbrev dktX0_put_1 : List UInt8 := dkwX0_put_1 ++ dktX0_put_2
def dkwX0_put_0 : List UInt8 := [42, 193, 2, 32, 153, 0, 23, 27, 42, 192, 2, 32, 190, 184, 2, 33, 42, 192, 2, 32, 27, 28, 145, 84]
abbrev dktX0_put_0 : List UInt8 := dkwX0_put_0 ++ dktX0_put_1
theorem dksX0_put_0 : cX0_put.data.toList.drop 0 = dktX0_put_0 := by decide +kernel
theorem dksX0_put_1 : cX0_put.data.toList.drop 24 = dktX0_put_1 := dk_seg dksX0_put_0 24 rfl rfl
theorem dksX0_put_2 : cX0_put.data.toList.drop 48 = dktX0_put_2 := dk_seg dksX0_put_1 24 rfl rfl
theorem dX0_put_0 : decode cX0_put 0 = .ok (.aload_n 0, 1) := dk_42 (dk_at dksX0_put_0 0 rfl rfl)
theorem dX0_put_1 : decode cX0_put 1 = .ok (.instanceof 544, 3) := dk_193 2 32 (dk_at dksX0_put_0 1 rfl rfl)
theorem dX0_put_4 : decode cX0_put 4 = .ok (.ifCond .eq 23, 3) := dk_153 0 23 (dk_at dksX0_put_0 4 rfl rfl)
theorem dX0_put_7 : decode cX0_put 7 = .ok (.iload_n 1, 1) := dk_27 (dk_at dksX0_put_0 7 rfl rfl)
theorem dX0_put_8 : decode cX0_put 8 = .ok (.aload_n 0, 1) := dk_42 (dk_at dksX0_put_0 8 rfl rfl)
theorem dX0_put_9 : decode cX0_put 9 = .ok (.checkcast 544, 3) := dk_192 2 32 (dk_at dksX0_put_0 9 rfl rfl)
theorem dX0_put_12 : decode cX0_put 12 = .ok (.arraylength, 1) := dk_190 (dk_at dksX0_put_0 12 rfl rfl)
theorem dX0_put_13 : decode cX0_put 13 = .ok (.invokestatic 545, 3) := dk_184 2 33 (dk_at dksX0_put_0 13 rfl rfl)
theorem dX0_put_16 : decode cX0_put 16 = .ok (.aload_n 0, 1) := dk_42 (dk_at dksX0_put_0 16 rfl rfl)
theorem dX0_put_17 : decode cX0_put 17 = .ok (.checkcast 544, 3) := dk_192 2 32 (dk_at dksX0_put_0 17 rfl rfl)
theorem dX0_put_20 : decode cX0_put 20 = .ok (.iload_n 1, 1) := dk_27 (dk_at dksX0_put_0 20 rfl rfl)
theorem dX0_put_21 : decode cX0_put 21 = .ok (.iload_n 2, 1) := dk_28 (dk_at dksX0_put_0 21 rfl rfl)
theorem dX0_put_22 : decode cX0_put 22 = .ok (.i2b, 1) := dk_145 (dk_at dksX0_put_0 22 rfl rfl)
theorem dX0_put_23 : decode cX0_put 23 = .ok (.bastore, 1) := dk_84 (dk_at dksX0_put_0 23 rfl rfl)
theorem dX0_put_24 : decode cX0_put 24 = .ok (.goto 46, 3) := dk_167 0 46 (dk_at dksX0_put_1 0 rfl rfl)
theorem dX0_put_27 : decode cX0_put 27 = .ok (.aload_n 0, 1) := dk_42 (dk_at dksX0_put_1 3 rfl rfl)
theorem dX0_put_28 : decode cX0_put 28 = .ok (.instanceof 548, 3) := dk_193 2 36 (dk_at dksX0_put_1 4 rfl rfl)
theorem dX0_put_31 : decode cX0_put 31 = .ok (.ifCond .eq 23, 3) := dk_153 0 23 (dk_at dksX0_put_1 7 rfl rfl)
theorem dX0_put_34 : decode cX0_put 34 = .ok (.iload_n 1, 1) := dk_27 (dk_at dksX0_put_1 10 rfl rfl)
theorem dX0_put_35 : decode cX0_put 35 = .ok (.aload_n 0, 1) := dk_42 (dk_at dksX0_put_1 11 rfl rfl)
theorem dX0_put_36 : decode cX0_put 36 = .ok (.checkcast 548, 3) := dk_192 2 36 (dk_at dksX0_put_1 12 rfl rfl)
theorem dX0_put_39 : decode cX0_put 39 = .ok (.arraylength, 1) := dk_190 (dk_at dksX0_put_1 15 rfl rfl)
theorem dX0_put_40 : decode cX0_put 40 = .ok (.invokestatic 545, 3) := dk_184 2 33 (dk_at dksX0_put_1 16 rfl rfl)
theorem dX0_put_43 : decode cX0_put 43 = .ok (.aload_n 0, 1) := dk_42 (dk_at dksX0_put_1 19 rfl rfl)
theorem dX0_put_44 : decode cX0_put 44 = .ok (.checkcast 548, 3) := dk_192 2 36 (dk_at dksX0_put_1 20 rfl rfl)
theorem dX0_put_47 : decode cX0_put 47 = .ok (.iload_n 1, 1) := dk_27 (dk_at dksX0_put_1 23 rfl rfl)
theorem dX0_put_48 : decode cX0_put 48 = .ok (.iload_n 2, 1) := dk_28 (dk_at dksX0_put_2 0 rfl rfl)
theorem dX0_put_49 : decode cX0_put 49 = .ok (.i2s, 1) := dk_147 (dk_at dksX0_put_2 1 rfl rfl)
theorem dX0_put_50 : decode cX0_put 50 = .ok (.sastore, 1) := dk_86 (dk_at dksX0_put_2 2 rfl rfl)
theorem dX0_put_51 : decode cX0_put 51 = .ok (.goto 19, 3) := dk_167 0 19 (dk_at dksX0_put_2 3 rfl rfl)
theorem dX0_put_54 : decode cX0_put 54 = .ok (.iload_n 1, 1) := dk_27 (dk_at dksX0_put_2 6 rfl rfl)
theorem dX0_put_55 : decode cX0_put 55 = .ok (.aload_n 0, 1) := dk_42 (dk_at dksX0_put_2 7 rfl rfl)
theorem dX0_put_56 : decode cX0_put 56 = .ok (.checkcast 550, 3) := dk_192 2 38 (dk_at dksX0_put_2 8 rfl rfl)
theorem dX0_put_59 : decode cX0_put 59 = .ok (.arraylength, 1) := dk_190 (dk_at dksX0_put_2 11 rfl rfl)
theorem dX0_put_60 : decode cX0_put 60 = .ok (.invokestatic 545, 3) := dk_184 2 33 (dk_at dksX0_put_2 12 rfl rfl)
theorem dX0_put_63 : decode cX0_put 63 = .ok (.aload_n 0, 1) := dk_42 (dk_at dksX0_put_2 15 rfl rfl)
theorem dX0_put_64 : decode cX0_put 64 = .ok (.checkcast 550, 3) := dk_192 2 38 (dk_at dksX0_put_2 16 rfl rfl)
theorem dX0_put_67 : decode cX0_put 67 = .ok (.iload_n 1, 1) := dk_27 (dk_at dksX0_put_2 19 rfl rfl)
theorem dX0_put_68 : decode cX0_put 68 = .ok (.iload_n 2, 1) := dk_28 (dk_at dksX0_put_2 20 rfl rfl)
theorem dX0_put_69 : decode cX0_put 69 = .ok (.iastore, 1) := dk_79 (dk_at dksX0_put_2 21 rfl rfl)
theorem dX0_put_70 : decode cX0_put 70 = .ok (.iconst 1, 1) := dk_4 (dk_at dksX0_put_2 22 rfl rfl)
theorem dX0_put_71 : decode cX0_put 71 = .ok (.ireturn, 1) := dk_172 (dk_at dksX0_put_2 23 rfl rfl)
abbrev cX0_drawn : ByteArray := prog_1_method_87_code
def yX0_drawn : MethodName := ⟨RX0, "drawn", "(II)I"⟩
def dkwX0_drawn_0 : List UInt8 := [42, 28, 182, 0, 79, 153, 0, 12, 42, 27, 28, 182, 2, 16, 167, 0, 5, 16, 156, 172]
abbrev dktX0_drawn_0 : List UInt8 := dkwX0_drawn_0 ++ []
theorem dksX0_drawn_0 : cX0_drawn.data.toList.drop 0 = dktX0_drawn_0 := by decide +kernel
theorem dX0_drawn_0 : decode cX0_drawn 0 = .ok (.aload_n 0, 1) := dk_42 (dk_at dksX0_drawn_0 0 rfl rfl)
theorem dX0_drawn_1 : decode cX0_drawn 1 = .ok (.iload_n 2, 1) := dk_28 (dk_at dksX0_drawn_0 1 rfl rfl)
theorem dX0_drawn_2 : decode cX0_drawn 2 = .ok (.invokevirtual 79, 3) := dk_182 0 79 (dk_at dksX0_drawn_0 2 rfl rfl)
theorem dX0_drawn_5 : decode cX0_drawn 5 = .ok (.ifCond .eq 12, 3) := dk_153 0 12 (dk_at dksX0_drawn_0 5 rfl rfl)
theorem dX0_drawn_8 : decode cX0_drawn 8 = .ok (.aload_n 0, 1) := dk_42 (dk_at dksX0_drawn_0 8 rfl rfl)
theorem dX0_drawn_9 : decode cX0_drawn 9 = .ok (.iload_n 1, 1) := dk_27 (dk_at dksX0_drawn_0 9 rfl rfl)
theorem dX0_drawn_10 : decode cX0_drawn 10 = .ok (.iload_n 2, 1) := dk_28 (dk_at dksX0_drawn_0 10 rfl rfl)
theorem dX0_drawn_11 : decode cX0_drawn 11 = .ok (.invokevirtual 528, 3) := dk_182 2 16 (dk_at dksX0_drawn_0 11 rfl rfl)
theorem dX0_drawn_14 : decode cX0_drawn 14 = .ok (.goto 5, 3) := dk_167 0 5 (dk_at dksX0_drawn_0 14 rfl rfl)
theorem dX0_drawn_17 : decode cX0_drawn 17 = .ok (.bipush (-100), 2) := dk_16 156 (dk_at dksX0_drawn_0 17 rfl rfl)
theorem dX0_drawn_19 : decode cX0_drawn 19 = .ok (.ireturn, 1) := dk_172 (dk_at dksX0_drawn_0 19 rfl rfl)
abbrev cX0_takenDrawn : ByteArray := prog_1_method_86_code
def yX0_takenDrawn : MethodName := ⟨RX0, "takenDrawn", "(II)I"⟩
def dkwX0_takenDrawn_4 : List UInt8 := [182, 1, 169, 25, 5, 191]
abbrev dktX0_takenDrawn_4 : List UInt8 := dkwX0_takenDrawn_4 ++ []
def dkwX0_takenDrawn_3 : List UInt8 := [167, 255, 210, 42, 28, 3, 182, 1, 149, 54, 4, 42, 3, 182, 1, 169, 21, 4, 172, 58, 5, 42, 3]
abbrev dktX0_takenDrawn_3 : List UInt8 := dkwX0_takenDrawn_3 ++ dktX0_takenDrawn_4
def dkwX0_takenDrawn_2 : List UInt8 := [92, 46, 29, 16, 9, 124, 6, 112, 153, 0, 10, 4, 21, 4, 120, 167, 0, 4, 3, 128, 79, 132, 4, 1]
abbrev dktX0_takenDrawn_2 : List UInt8 := dkwX0_takenDrawn_2 ++ dktX0_takenDrawn_3
def dkwX0_takenDrawn_1 : List UInt8 := [54, 4, 21, 4, 16, 24, 162, 0, 45, 29, 19, 2, 15, 104, 17, 48, 57, 96, 62, 42, 180, 0, 65, 3]
abbrev dktX0_takenDrawn_1 : List UInt8 := dkwX0_takenDrawn_1 ++ dktX0_takenDrawn_2
def dkwX0_takenDrawn_0 : List UInt8 := [27, 62, 42, 3, 182, 1, 167, 42, 180, 0, 61, 3, 16, 24, 79, 42, 180, 0, 65, 3, 3, 79, 3]
abbrev dktX0_takenDrawn_0 : List UInt8 := dkwX0_takenDrawn_0 ++ dktX0_takenDrawn_1
theorem dksX0_takenDrawn_0 : cX0_takenDrawn.data.toList.drop 0 = dktX0_takenDrawn_0 := by decide +kernel
theorem dksX0_takenDrawn_1 : cX0_takenDrawn.data.toList.drop 23 = dktX0_takenDrawn_1 := dk_seg dksX0_takenDrawn_0 23 rfl rfl
theorem dksX0_takenDrawn_2 : cX0_takenDrawn.data.toList.drop 47 = dktX0_takenDrawn_2 := dk_seg dksX0_takenDrawn_1 24 rfl rfl
theorem dksX0_takenDrawn_3 : cX0_takenDrawn.data.toList.drop 71 = dktX0_takenDrawn_3 := dk_seg dksX0_takenDrawn_2 24 rfl rfl
theorem dksX0_takenDrawn_4 : cX0_takenDrawn.data.toList.drop 94 = dktX0_takenDrawn_4 := dk_seg dksX0_takenDrawn_3 23 rfl rfl
theorem dX0_takenDrawn_0 : decode cX0_takenDrawn 0 = .ok (.iload_n 1, 1) := dk_27 (dk_at dksX0_takenDrawn_0 0 rfl rfl)
theorem dX0_takenDrawn_1 : decode cX0_takenDrawn 1 = .ok (.istore_n 3, 1) := dk_62 (dk_at dksX0_takenDrawn_0 1 rfl rfl)
theorem dX0_takenDrawn_2 : decode cX0_takenDrawn 2 = .ok (.aload_n 0, 1) := dk_42 (dk_at dksX0_takenDrawn_0 2 rfl rfl)
theorem dX0_takenDrawn_3 : decode cX0_takenDrawn 3 = .ok (.iconst 0, 1) := dk_3 (dk_at dksX0_takenDrawn_0 3 rfl rfl)
theorem dX0_takenDrawn_4 : decode cX0_takenDrawn 4 = .ok (.invokevirtual 423, 3) := dk_182 1 167 (dk_at dksX0_takenDrawn_0 4 rfl rfl)
theorem dX0_takenDrawn_7 : decode cX0_takenDrawn 7 = .ok (.aload_n 0, 1) := dk_42 (dk_at dksX0_takenDrawn_0 7 rfl rfl)
theorem dX0_takenDrawn_8 : decode cX0_takenDrawn 8 = .ok (.getfield 61, 3) := dk_180 0 61 (dk_at dksX0_takenDrawn_0 8 rfl rfl)
theorem dX0_takenDrawn_11 : decode cX0_takenDrawn 11 = .ok (.iconst 0, 1) := dk_3 (dk_at dksX0_takenDrawn_0 11 rfl rfl)
theorem dX0_takenDrawn_12 : decode cX0_takenDrawn 12 = .ok (.bipush 24, 2) := dk_16 24 (dk_at dksX0_takenDrawn_0 12 rfl rfl)
theorem dX0_takenDrawn_14 : decode cX0_takenDrawn 14 = .ok (.iastore, 1) := dk_79 (dk_at dksX0_takenDrawn_0 14 rfl rfl)
theorem dX0_takenDrawn_15 : decode cX0_takenDrawn 15 = .ok (.aload_n 0, 1) := dk_42 (dk_at dksX0_takenDrawn_0 15 rfl rfl)
theorem dX0_takenDrawn_16 : decode cX0_takenDrawn 16 = .ok (.getfield 65, 3) := dk_180 0 65 (dk_at dksX0_takenDrawn_0 16 rfl rfl)
theorem dX0_takenDrawn_19 : decode cX0_takenDrawn 19 = .ok (.iconst 0, 1) := dk_3 (dk_at dksX0_takenDrawn_0 19 rfl rfl)
theorem dX0_takenDrawn_20 : decode cX0_takenDrawn 20 = .ok (.iconst 0, 1) := dk_3 (dk_at dksX0_takenDrawn_0 20 rfl rfl)
theorem dX0_takenDrawn_21 : decode cX0_takenDrawn 21 = .ok (.iastore, 1) := dk_79 (dk_at dksX0_takenDrawn_0 21 rfl rfl)
theorem dX0_takenDrawn_22 : decode cX0_takenDrawn 22 = .ok (.iconst 0, 1) := dk_3 (dk_at dksX0_takenDrawn_0 22 rfl rfl)
theorem dX0_takenDrawn_23 : decode cX0_takenDrawn 23 = .ok (.istore 4, 2) := dk_54 4 (dk_at dksX0_takenDrawn_1 0 rfl rfl)
theorem dX0_takenDrawn_25 : decode cX0_takenDrawn 25 = .ok (.iload 4, 2) := dk_21 4 (dk_at dksX0_takenDrawn_1 2 rfl rfl)
theorem dX0_takenDrawn_27 : decode cX0_takenDrawn 27 = .ok (.bipush 24, 2) := dk_16 24 (dk_at dksX0_takenDrawn_1 4 rfl rfl)
theorem dX0_takenDrawn_29 : decode cX0_takenDrawn 29 = .ok (.if_icmp .ge 45, 3) := dk_162 0 45 (dk_at dksX0_takenDrawn_1 6 rfl rfl)
theorem dX0_takenDrawn_32 : decode cX0_takenDrawn 32 = .ok (.iload_n 3, 1) := dk_29 (dk_at dksX0_takenDrawn_1 9 rfl rfl)
theorem dX0_takenDrawn_33 : decode cX0_takenDrawn 33 = .ok (.ldc_w 527, 3) := dk_19 2 15 (dk_at dksX0_takenDrawn_1 10 rfl rfl)
theorem dX0_takenDrawn_36 : decode cX0_takenDrawn 36 = .ok (.imul, 1) := dk_104 (dk_at dksX0_takenDrawn_1 13 rfl rfl)
theorem dX0_takenDrawn_37 : decode cX0_takenDrawn 37 = .ok (.sipush 12345, 3) := dk_17 48 57 (dk_at dksX0_takenDrawn_1 14 rfl rfl)
theorem dX0_takenDrawn_40 : decode cX0_takenDrawn 40 = .ok (.iadd, 1) := dk_96 (dk_at dksX0_takenDrawn_1 17 rfl rfl)
theorem dX0_takenDrawn_41 : decode cX0_takenDrawn 41 = .ok (.istore_n 3, 1) := dk_62 (dk_at dksX0_takenDrawn_1 18 rfl rfl)
theorem dX0_takenDrawn_42 : decode cX0_takenDrawn 42 = .ok (.aload_n 0, 1) := dk_42 (dk_at dksX0_takenDrawn_1 19 rfl rfl)
theorem dX0_takenDrawn_43 : decode cX0_takenDrawn 43 = .ok (.getfield 65, 3) := dk_180 0 65 (dk_at dksX0_takenDrawn_1 20 rfl rfl)
theorem dX0_takenDrawn_46 : decode cX0_takenDrawn 46 = .ok (.iconst 0, 1) := dk_3 (dk_at dksX0_takenDrawn_1 23 rfl rfl)
theorem dX0_takenDrawn_47 : decode cX0_takenDrawn 47 = .ok (.dup2, 1) := dk_92 (dk_at dksX0_takenDrawn_2 0 rfl rfl)
theorem dX0_takenDrawn_48 : decode cX0_takenDrawn 48 = .ok (.iaload, 1) := dk_46 (dk_at dksX0_takenDrawn_2 1 rfl rfl)
theorem dX0_takenDrawn_49 : decode cX0_takenDrawn 49 = .ok (.iload_n 3, 1) := dk_29 (dk_at dksX0_takenDrawn_2 2 rfl rfl)
theorem dX0_takenDrawn_50 : decode cX0_takenDrawn 50 = .ok (.bipush 9, 2) := dk_16 9 (dk_at dksX0_takenDrawn_2 3 rfl rfl)
theorem dX0_takenDrawn_52 : decode cX0_takenDrawn 52 = .ok (.iushr, 1) := dk_124 (dk_at dksX0_takenDrawn_2 5 rfl rfl)
theorem dX0_takenDrawn_53 : decode cX0_takenDrawn 53 = .ok (.iconst 3, 1) := dk_6 (dk_at dksX0_takenDrawn_2 6 rfl rfl)
theorem dX0_takenDrawn_54 : decode cX0_takenDrawn 54 = .ok (.irem, 1) := dk_112 (dk_at dksX0_takenDrawn_2 7 rfl rfl)
theorem dX0_takenDrawn_55 : decode cX0_takenDrawn 55 = .ok (.ifCond .eq 10, 3) := dk_153 0 10 (dk_at dksX0_takenDrawn_2 8 rfl rfl)
theorem dX0_takenDrawn_58 : decode cX0_takenDrawn 58 = .ok (.iconst 1, 1) := dk_4 (dk_at dksX0_takenDrawn_2 11 rfl rfl)
theorem dX0_takenDrawn_59 : decode cX0_takenDrawn 59 = .ok (.iload 4, 2) := dk_21 4 (dk_at dksX0_takenDrawn_2 12 rfl rfl)
theorem dX0_takenDrawn_61 : decode cX0_takenDrawn 61 = .ok (.ishl, 1) := dk_120 (dk_at dksX0_takenDrawn_2 14 rfl rfl)
theorem dX0_takenDrawn_62 : decode cX0_takenDrawn 62 = .ok (.goto 4, 3) := dk_167 0 4 (dk_at dksX0_takenDrawn_2 15 rfl rfl)
theorem dX0_takenDrawn_65 : decode cX0_takenDrawn 65 = .ok (.iconst 0, 1) := dk_3 (dk_at dksX0_takenDrawn_2 18 rfl rfl)
theorem dX0_takenDrawn_66 : decode cX0_takenDrawn 66 = .ok (.ior, 1) := dk_128 (dk_at dksX0_takenDrawn_2 19 rfl rfl)
theorem dX0_takenDrawn_67 : decode cX0_takenDrawn 67 = .ok (.iastore, 1) := dk_79 (dk_at dksX0_takenDrawn_2 20 rfl rfl)
theorem dX0_takenDrawn_68 : decode cX0_takenDrawn 68 = .ok (.iinc 4 1, 3) := dk_132 4 1 (dk_at dksX0_takenDrawn_2 21 rfl rfl)
theorem dX0_takenDrawn_71 : decode cX0_takenDrawn 71 = .ok (.goto (-46), 3) := dk_167 255 210 (dk_at dksX0_takenDrawn_3 0 rfl rfl)
theorem dX0_takenDrawn_74 : decode cX0_takenDrawn 74 = .ok (.aload_n 0, 1) := dk_42 (dk_at dksX0_takenDrawn_3 3 rfl rfl)
theorem dX0_takenDrawn_75 : decode cX0_takenDrawn 75 = .ok (.iload_n 2, 1) := dk_28 (dk_at dksX0_takenDrawn_3 4 rfl rfl)
theorem dX0_takenDrawn_76 : decode cX0_takenDrawn 76 = .ok (.iconst 0, 1) := dk_3 (dk_at dksX0_takenDrawn_3 5 rfl rfl)
theorem dX0_takenDrawn_77 : decode cX0_takenDrawn 77 = .ok (.invokevirtual 405, 3) := dk_182 1 149 (dk_at dksX0_takenDrawn_3 6 rfl rfl)
theorem dX0_takenDrawn_80 : decode cX0_takenDrawn 80 = .ok (.istore 4, 2) := dk_54 4 (dk_at dksX0_takenDrawn_3 9 rfl rfl)
theorem dX0_takenDrawn_82 : decode cX0_takenDrawn 82 = .ok (.aload_n 0, 1) := dk_42 (dk_at dksX0_takenDrawn_3 11 rfl rfl)
theorem dX0_takenDrawn_83 : decode cX0_takenDrawn 83 = .ok (.iconst 0, 1) := dk_3 (dk_at dksX0_takenDrawn_3 12 rfl rfl)
theorem dX0_takenDrawn_84 : decode cX0_takenDrawn 84 = .ok (.invokevirtual 425, 3) := dk_182 1 169 (dk_at dksX0_takenDrawn_3 13 rfl rfl)
theorem dX0_takenDrawn_87 : decode cX0_takenDrawn 87 = .ok (.iload 4, 2) := dk_21 4 (dk_at dksX0_takenDrawn_3 16 rfl rfl)
theorem dX0_takenDrawn_89 : decode cX0_takenDrawn 89 = .ok (.ireturn, 1) := dk_172 (dk_at dksX0_takenDrawn_3 18 rfl rfl)
theorem dX0_takenDrawn_90 : decode cX0_takenDrawn 90 = .ok (.astore 5, 2) := dk_58 5 (dk_at dksX0_takenDrawn_3 19 rfl rfl)
theorem dX0_takenDrawn_92 : decode cX0_takenDrawn 92 = .ok (.aload_n 0, 1) := dk_42 (dk_at dksX0_takenDrawn_3 21 rfl rfl)
theorem dX0_takenDrawn_93 : decode cX0_takenDrawn 93 = .ok (.iconst 0, 1) := dk_3 (dk_at dksX0_takenDrawn_3 22 rfl rfl)
theorem dX0_takenDrawn_94 : decode cX0_takenDrawn 94 = .ok (.invokevirtual 425, 3) := dk_182 1 169 (dk_at dksX0_takenDrawn_4 0 rfl rfl)
theorem dX0_takenDrawn_97 : decode cX0_takenDrawn 97 = .ok (.aload 5, 2) := dk_25 5 (dk_at dksX0_takenDrawn_4 3 rfl rfl)
theorem dX0_takenDrawn_99 : decode cX0_takenDrawn 99 = .ok (.athrow, 1) := dk_191 (dk_at dksX0_takenDrawn_4 5 rfl rfl)
abbrev cX0_chance : ByteArray := prog_1_method_88_code
def yX0_chance : MethodName := ⟨RX0, "chance", "(IIIII)J"⟩
def dkwX0_chance_4 : List UInt8 := [21, 5, 184, 1, 207, 173]
abbrev dktX0_chance_4 : List UInt8 := dkwX0_chance_4 ++ []
def dkwX0_chance_3 : List UInt8 := [21, 4, 161, 0, 7, 10, 167, 0, 4, 9, 97, 55, 6, 132, 8, 1, 167, 255, 223, 22, 6, 28, 133]
abbrev dktX0_chance_3 : List UInt8 := dkwX0_chance_3 ++ dktX0_chance_4
def dkwX0_chance_2 : List UInt8 := [9, 55, 6, 3, 54, 8, 21, 8, 28, 162, 0, 33, 22, 6, 42, 27, 21, 8, 96, 29, 182, 2, 16]
abbrev dktX0_chance_2 : List UInt8 := dkwX0_chance_2 ++ dktX0_chance_3
def dkwX0_chance_1 : List UInt8 := [20, 0, 59, 184, 0, 14, 153, 0, 14, 21, 5, 133, 9, 10, 184, 0, 14, 154, 0, 7, 20, 1, 205, 173]
abbrev dktX0_chance_1 : List UInt8 := dkwX0_chance_1 ++ dktX0_chance_2
def dkwX0_chance_0 : List UInt8 := [28, 133, 10, 20, 1, 175, 184, 0, 14, 153, 0, 35, 42, 29, 182, 0, 79, 153, 0, 27, 21, 4, 133, 9]
abbrev dktX0_chance_0 : List UInt8 := dkwX0_chance_0 ++ dktX0_chance_1
theorem dksX0_chance_0 : cX0_chance.data.toList.drop 0 = dktX0_chance_0 := by decide +kernel
theorem dksX0_chance_1 : cX0_chance.data.toList.drop 24 = dktX0_chance_1 := dk_seg dksX0_chance_0 24 rfl rfl
theorem dksX0_chance_2 : cX0_chance.data.toList.drop 48 = dktX0_chance_2 := dk_seg dksX0_chance_1 24 rfl rfl
theorem dksX0_chance_3 : cX0_chance.data.toList.drop 71 = dktX0_chance_3 := dk_seg dksX0_chance_2 23 rfl rfl
theorem dksX0_chance_4 : cX0_chance.data.toList.drop 94 = dktX0_chance_4 := dk_seg dksX0_chance_3 23 rfl rfl
theorem dX0_chance_0 : decode cX0_chance 0 = .ok (.iload_n 2, 1) := dk_28 (dk_at dksX0_chance_0 0 rfl rfl)
theorem dX0_chance_1 : decode cX0_chance 1 = .ok (.i2l, 1) := dk_133 (dk_at dksX0_chance_0 1 rfl rfl)
theorem dX0_chance_2 : decode cX0_chance 2 = .ok (.lconst 1, 1) := dk_10 (dk_at dksX0_chance_0 2 rfl rfl)
theorem dX0_chance_3 : decode cX0_chance 3 = .ok (.ldc2_w 431, 3) := dk_20 1 175 (dk_at dksX0_chance_0 3 rfl rfl)
theorem dX0_chance_6 : decode cX0_chance 6 = .ok (.invokestatic 14, 3) := dk_184 0 14 (dk_at dksX0_chance_0 6 rfl rfl)
theorem dX0_chance_9 : decode cX0_chance 9 = .ok (.ifCond .eq 35, 3) := dk_153 0 35 (dk_at dksX0_chance_0 9 rfl rfl)
theorem dX0_chance_12 : decode cX0_chance 12 = .ok (.aload_n 0, 1) := dk_42 (dk_at dksX0_chance_0 12 rfl rfl)
theorem dX0_chance_13 : decode cX0_chance 13 = .ok (.iload_n 3, 1) := dk_29 (dk_at dksX0_chance_0 13 rfl rfl)
theorem dX0_chance_14 : decode cX0_chance 14 = .ok (.invokevirtual 79, 3) := dk_182 0 79 (dk_at dksX0_chance_0 14 rfl rfl)
theorem dX0_chance_17 : decode cX0_chance 17 = .ok (.ifCond .eq 27, 3) := dk_153 0 27 (dk_at dksX0_chance_0 17 rfl rfl)
theorem dX0_chance_20 : decode cX0_chance 20 = .ok (.iload 4, 2) := dk_21 4 (dk_at dksX0_chance_0 20 rfl rfl)
theorem dX0_chance_22 : decode cX0_chance 22 = .ok (.i2l, 1) := dk_133 (dk_at dksX0_chance_0 22 rfl rfl)
theorem dX0_chance_23 : decode cX0_chance 23 = .ok (.lconst 0, 1) := dk_9 (dk_at dksX0_chance_0 23 rfl rfl)
theorem dX0_chance_24 : decode cX0_chance 24 = .ok (.ldc2_w 59, 3) := dk_20 0 59 (dk_at dksX0_chance_1 0 rfl rfl)
theorem dX0_chance_27 : decode cX0_chance 27 = .ok (.invokestatic 14, 3) := dk_184 0 14 (dk_at dksX0_chance_1 3 rfl rfl)
theorem dX0_chance_30 : decode cX0_chance 30 = .ok (.ifCond .eq 14, 3) := dk_153 0 14 (dk_at dksX0_chance_1 6 rfl rfl)
theorem dX0_chance_33 : decode cX0_chance 33 = .ok (.iload 5, 2) := dk_21 5 (dk_at dksX0_chance_1 9 rfl rfl)
theorem dX0_chance_35 : decode cX0_chance 35 = .ok (.i2l, 1) := dk_133 (dk_at dksX0_chance_1 11 rfl rfl)
theorem dX0_chance_36 : decode cX0_chance 36 = .ok (.lconst 0, 1) := dk_9 (dk_at dksX0_chance_1 12 rfl rfl)
theorem dX0_chance_37 : decode cX0_chance 37 = .ok (.lconst 1, 1) := dk_10 (dk_at dksX0_chance_1 13 rfl rfl)
theorem dX0_chance_38 : decode cX0_chance 38 = .ok (.invokestatic 14, 3) := dk_184 0 14 (dk_at dksX0_chance_1 14 rfl rfl)
theorem dX0_chance_41 : decode cX0_chance 41 = .ok (.ifCond .ne 7, 3) := dk_154 0 7 (dk_at dksX0_chance_1 17 rfl rfl)
theorem dX0_chance_44 : decode cX0_chance 44 = .ok (.ldc2_w 461, 3) := dk_20 1 205 (dk_at dksX0_chance_1 20 rfl rfl)
theorem dX0_chance_47 : decode cX0_chance 47 = .ok (.lreturn, 1) := dk_173 (dk_at dksX0_chance_1 23 rfl rfl)
theorem dX0_chance_48 : decode cX0_chance 48 = .ok (.lconst 0, 1) := dk_9 (dk_at dksX0_chance_2 0 rfl rfl)
theorem dX0_chance_49 : decode cX0_chance 49 = .ok (.lstore 6, 2) := dk_55 6 (dk_at dksX0_chance_2 1 rfl rfl)
theorem dX0_chance_51 : decode cX0_chance 51 = .ok (.iconst 0, 1) := dk_3 (dk_at dksX0_chance_2 3 rfl rfl)
theorem dX0_chance_52 : decode cX0_chance 52 = .ok (.istore 8, 2) := dk_54 8 (dk_at dksX0_chance_2 4 rfl rfl)
theorem dX0_chance_54 : decode cX0_chance 54 = .ok (.iload 8, 2) := dk_21 8 (dk_at dksX0_chance_2 6 rfl rfl)
theorem dX0_chance_56 : decode cX0_chance 56 = .ok (.iload_n 2, 1) := dk_28 (dk_at dksX0_chance_2 8 rfl rfl)
theorem dX0_chance_57 : decode cX0_chance 57 = .ok (.if_icmp .ge 33, 3) := dk_162 0 33 (dk_at dksX0_chance_2 9 rfl rfl)
theorem dX0_chance_60 : decode cX0_chance 60 = .ok (.lload 6, 2) := dk_22 6 (dk_at dksX0_chance_2 12 rfl rfl)
theorem dX0_chance_62 : decode cX0_chance 62 = .ok (.aload_n 0, 1) := dk_42 (dk_at dksX0_chance_2 14 rfl rfl)
theorem dX0_chance_63 : decode cX0_chance 63 = .ok (.iload_n 1, 1) := dk_27 (dk_at dksX0_chance_2 15 rfl rfl)
theorem dX0_chance_64 : decode cX0_chance 64 = .ok (.iload 8, 2) := dk_21 8 (dk_at dksX0_chance_2 16 rfl rfl)
theorem dX0_chance_66 : decode cX0_chance 66 = .ok (.iadd, 1) := dk_96 (dk_at dksX0_chance_2 18 rfl rfl)
theorem dX0_chance_67 : decode cX0_chance 67 = .ok (.iload_n 3, 1) := dk_29 (dk_at dksX0_chance_2 19 rfl rfl)
theorem dX0_chance_68 : decode cX0_chance 68 = .ok (.invokevirtual 528, 3) := dk_182 2 16 (dk_at dksX0_chance_2 20 rfl rfl)
theorem dX0_chance_71 : decode cX0_chance 71 = .ok (.iload 4, 2) := dk_21 4 (dk_at dksX0_chance_3 0 rfl rfl)
theorem dX0_chance_73 : decode cX0_chance 73 = .ok (.if_icmp .lt 7, 3) := dk_161 0 7 (dk_at dksX0_chance_3 2 rfl rfl)
theorem dX0_chance_76 : decode cX0_chance 76 = .ok (.lconst 1, 1) := dk_10 (dk_at dksX0_chance_3 5 rfl rfl)
theorem dX0_chance_77 : decode cX0_chance 77 = .ok (.goto 4, 3) := dk_167 0 4 (dk_at dksX0_chance_3 6 rfl rfl)
theorem dX0_chance_80 : decode cX0_chance 80 = .ok (.lconst 0, 1) := dk_9 (dk_at dksX0_chance_3 9 rfl rfl)
theorem dX0_chance_81 : decode cX0_chance 81 = .ok (.ladd, 1) := dk_97 (dk_at dksX0_chance_3 10 rfl rfl)
theorem dX0_chance_82 : decode cX0_chance 82 = .ok (.lstore 6, 2) := dk_55 6 (dk_at dksX0_chance_3 11 rfl rfl)
theorem dX0_chance_84 : decode cX0_chance 84 = .ok (.iinc 8 1, 3) := dk_132 8 1 (dk_at dksX0_chance_3 13 rfl rfl)
theorem dX0_chance_87 : decode cX0_chance 87 = .ok (.goto (-33), 3) := dk_167 255 223 (dk_at dksX0_chance_3 16 rfl rfl)
theorem dX0_chance_90 : decode cX0_chance 90 = .ok (.lload 6, 2) := dk_22 6 (dk_at dksX0_chance_3 19 rfl rfl)
theorem dX0_chance_92 : decode cX0_chance 92 = .ok (.iload_n 2, 1) := dk_28 (dk_at dksX0_chance_3 21 rfl rfl)
theorem dX0_chance_93 : decode cX0_chance 93 = .ok (.i2l, 1) := dk_133 (dk_at dksX0_chance_3 22 rfl rfl)
theorem dX0_chance_94 : decode cX0_chance 94 = .ok (.iload 5, 2) := dk_21 5 (dk_at dksX0_chance_4 0 rfl rfl)
theorem dX0_chance_96 : decode cX0_chance 96 = .ok (.invokestatic 463, 3) := dk_184 1 207 (dk_at dksX0_chance_4 2 rfl rfl)
theorem dX0_chance_99 : decode cX0_chance 99 = .ok (.lreturn, 1) := dk_173 (dk_at dksX0_chance_4 5 rfl rfl)
abbrev cX0_image : ByteArray := prog_1_method_89_code
def yX0_image : MethodName := ⟨RX0, "image", "()I"⟩
def dkwX0_image_5 : List UInt8 := [42, 180, 0, 18, 172]
abbrev dktX0_image_5 : List UInt8 := dkwX0_image_5 ++ []
def dkwX0_image_4 : List UInt8 := [180, 1, 80, 4, 42, 180, 0, 82, 79, 42, 180, 1, 80, 5, 42, 180, 1, 99, 79, 42, 4, 181, 2, 19]
abbrev dktX0_image_4 : List UInt8 := dkwX0_image_4 ++ dktX0_image_5
def dkwX0_image_3 : List UInt8 := [27, 50, 180, 0, 88, 79, 132, 1, 1, 167, 255, 211, 42, 180, 1, 80, 3, 42, 180, 0, 18, 79, 42]
abbrev dktX0_image_3 : List UInt8 := dkwX0_image_3 ++ dktX0_image_4
def dkwX0_image_2 : List UInt8 := [3, 50, 27, 42, 180, 0, 47, 27, 50, 180, 0, 85, 79, 42, 180, 1, 77, 4, 50, 27, 42, 180, 0, 47]
abbrev dktX0_image_2 : List UInt8 := dkwX0_image_2 ++ dktX0_image_3
def dkwX0_image_1 : List UInt8 := [180, 1, 74, 4, 50, 3, 7, 184, 1, 161, 3, 60, 27, 42, 180, 0, 18, 162, 0, 43, 42, 180, 1, 77]
abbrev dktX0_image_1 : List UInt8 := dkwX0_image_1 ++ dktX0_image_2
def dkwX0_image_0 : List UInt8 := [42, 180, 0, 61, 3, 42, 180, 1, 74, 3, 50, 3, 7, 184, 1, 161, 42, 180, 0, 65, 3, 42]
abbrev dktX0_image_0 : List UInt8 := dkwX0_image_0 ++ dktX0_image_1
theorem dksX0_image_0 : cX0_image.data.toList.drop 0 = dktX0_image_0 := by decide +kernel
theorem dksX0_image_1 : cX0_image.data.toList.drop 22 = dktX0_image_1 := dk_seg dksX0_image_0 22 rfl rfl
theorem dksX0_image_2 : cX0_image.data.toList.drop 46 = dktX0_image_2 := dk_seg dksX0_image_1 24 rfl rfl
theorem dksX0_image_3 : cX0_image.data.toList.drop 70 = dktX0_image_3 := dk_seg dksX0_image_2 24 rfl rfl
theorem dksX0_image_4 : cX0_image.data.toList.drop 93 = dktX0_image_4 := dk_seg dksX0_image_3 23 rfl rfl
theorem dksX0_image_5 : cX0_image.data.toList.drop 117 = dktX0_image_5 := dk_seg dksX0_image_4 24 rfl rfl
theorem dX0_image_0 : decode cX0_image 0 = .ok (.aload_n 0, 1) := dk_42 (dk_at dksX0_image_0 0 rfl rfl)
theorem dX0_image_1 : decode cX0_image 1 = .ok (.getfield 61, 3) := dk_180 0 61 (dk_at dksX0_image_0 1 rfl rfl)
theorem dX0_image_4 : decode cX0_image 4 = .ok (.iconst 0, 1) := dk_3 (dk_at dksX0_image_0 4 rfl rfl)
theorem dX0_image_5 : decode cX0_image 5 = .ok (.aload_n 0, 1) := dk_42 (dk_at dksX0_image_0 5 rfl rfl)
theorem dX0_image_6 : decode cX0_image 6 = .ok (.getfield 330, 3) := dk_180 1 74 (dk_at dksX0_image_0 6 rfl rfl)
theorem dX0_image_9 : decode cX0_image 9 = .ok (.iconst 0, 1) := dk_3 (dk_at dksX0_image_0 9 rfl rfl)
theorem dX0_image_10 : decode cX0_image 10 = .ok (.aaload, 1) := dk_50 (dk_at dksX0_image_0 10 rfl rfl)
theorem dX0_image_11 : decode cX0_image 11 = .ok (.iconst 0, 1) := dk_3 (dk_at dksX0_image_0 11 rfl rfl)
theorem dX0_image_12 : decode cX0_image 12 = .ok (.iconst 4, 1) := dk_7 (dk_at dksX0_image_0 12 rfl rfl)
theorem dX0_image_13 : decode cX0_image 13 = .ok (.invokestatic 417, 3) := dk_184 1 161 (dk_at dksX0_image_0 13 rfl rfl)
theorem dX0_image_16 : decode cX0_image 16 = .ok (.aload_n 0, 1) := dk_42 (dk_at dksX0_image_0 16 rfl rfl)
theorem dX0_image_17 : decode cX0_image 17 = .ok (.getfield 65, 3) := dk_180 0 65 (dk_at dksX0_image_0 17 rfl rfl)
theorem dX0_image_20 : decode cX0_image 20 = .ok (.iconst 0, 1) := dk_3 (dk_at dksX0_image_0 20 rfl rfl)
theorem dX0_image_21 : decode cX0_image 21 = .ok (.aload_n 0, 1) := dk_42 (dk_at dksX0_image_0 21 rfl rfl)
theorem dX0_image_22 : decode cX0_image 22 = .ok (.getfield 330, 3) := dk_180 1 74 (dk_at dksX0_image_1 0 rfl rfl)
theorem dX0_image_25 : decode cX0_image 25 = .ok (.iconst 1, 1) := dk_4 (dk_at dksX0_image_1 3 rfl rfl)
theorem dX0_image_26 : decode cX0_image 26 = .ok (.aaload, 1) := dk_50 (dk_at dksX0_image_1 4 rfl rfl)
theorem dX0_image_27 : decode cX0_image 27 = .ok (.iconst 0, 1) := dk_3 (dk_at dksX0_image_1 5 rfl rfl)
theorem dX0_image_28 : decode cX0_image 28 = .ok (.iconst 4, 1) := dk_7 (dk_at dksX0_image_1 6 rfl rfl)
theorem dX0_image_29 : decode cX0_image 29 = .ok (.invokestatic 417, 3) := dk_184 1 161 (dk_at dksX0_image_1 7 rfl rfl)
theorem dX0_image_32 : decode cX0_image 32 = .ok (.iconst 0, 1) := dk_3 (dk_at dksX0_image_1 10 rfl rfl)
theorem dX0_image_33 : decode cX0_image 33 = .ok (.istore_n 1, 1) := dk_60 (dk_at dksX0_image_1 11 rfl rfl)
theorem dX0_image_34 : decode cX0_image 34 = .ok (.iload_n 1, 1) := dk_27 (dk_at dksX0_image_1 12 rfl rfl)
theorem dX0_image_35 : decode cX0_image 35 = .ok (.aload_n 0, 1) := dk_42 (dk_at dksX0_image_1 13 rfl rfl)
theorem dX0_image_36 : decode cX0_image 36 = .ok (.getfield 18, 3) := dk_180 0 18 (dk_at dksX0_image_1 14 rfl rfl)
theorem dX0_image_39 : decode cX0_image 39 = .ok (.if_icmp .ge 43, 3) := dk_162 0 43 (dk_at dksX0_image_1 17 rfl rfl)
theorem dX0_image_42 : decode cX0_image 42 = .ok (.aload_n 0, 1) := dk_42 (dk_at dksX0_image_1 20 rfl rfl)
theorem dX0_image_43 : decode cX0_image 43 = .ok (.getfield 333, 3) := dk_180 1 77 (dk_at dksX0_image_1 21 rfl rfl)
theorem dX0_image_46 : decode cX0_image 46 = .ok (.iconst 0, 1) := dk_3 (dk_at dksX0_image_2 0 rfl rfl)
theorem dX0_image_47 : decode cX0_image 47 = .ok (.aaload, 1) := dk_50 (dk_at dksX0_image_2 1 rfl rfl)
theorem dX0_image_48 : decode cX0_image 48 = .ok (.iload_n 1, 1) := dk_27 (dk_at dksX0_image_2 2 rfl rfl)
theorem dX0_image_49 : decode cX0_image 49 = .ok (.aload_n 0, 1) := dk_42 (dk_at dksX0_image_2 3 rfl rfl)
theorem dX0_image_50 : decode cX0_image 50 = .ok (.getfield 47, 3) := dk_180 0 47 (dk_at dksX0_image_2 4 rfl rfl)
theorem dX0_image_53 : decode cX0_image 53 = .ok (.iload_n 1, 1) := dk_27 (dk_at dksX0_image_2 7 rfl rfl)
theorem dX0_image_54 : decode cX0_image 54 = .ok (.aaload, 1) := dk_50 (dk_at dksX0_image_2 8 rfl rfl)
theorem dX0_image_55 : decode cX0_image 55 = .ok (.getfield 85, 3) := dk_180 0 85 (dk_at dksX0_image_2 9 rfl rfl)
theorem dX0_image_58 : decode cX0_image 58 = .ok (.iastore, 1) := dk_79 (dk_at dksX0_image_2 12 rfl rfl)
theorem dX0_image_59 : decode cX0_image 59 = .ok (.aload_n 0, 1) := dk_42 (dk_at dksX0_image_2 13 rfl rfl)
theorem dX0_image_60 : decode cX0_image 60 = .ok (.getfield 333, 3) := dk_180 1 77 (dk_at dksX0_image_2 14 rfl rfl)
theorem dX0_image_63 : decode cX0_image 63 = .ok (.iconst 1, 1) := dk_4 (dk_at dksX0_image_2 17 rfl rfl)
theorem dX0_image_64 : decode cX0_image 64 = .ok (.aaload, 1) := dk_50 (dk_at dksX0_image_2 18 rfl rfl)
theorem dX0_image_65 : decode cX0_image 65 = .ok (.iload_n 1, 1) := dk_27 (dk_at dksX0_image_2 19 rfl rfl)
theorem dX0_image_66 : decode cX0_image 66 = .ok (.aload_n 0, 1) := dk_42 (dk_at dksX0_image_2 20 rfl rfl)
theorem dX0_image_67 : decode cX0_image 67 = .ok (.getfield 47, 3) := dk_180 0 47 (dk_at dksX0_image_2 21 rfl rfl)
theorem dX0_image_70 : decode cX0_image 70 = .ok (.iload_n 1, 1) := dk_27 (dk_at dksX0_image_3 0 rfl rfl)
theorem dX0_image_71 : decode cX0_image 71 = .ok (.aaload, 1) := dk_50 (dk_at dksX0_image_3 1 rfl rfl)
theorem dX0_image_72 : decode cX0_image 72 = .ok (.getfield 88, 3) := dk_180 0 88 (dk_at dksX0_image_3 2 rfl rfl)
theorem dX0_image_75 : decode cX0_image 75 = .ok (.iastore, 1) := dk_79 (dk_at dksX0_image_3 5 rfl rfl)
theorem dX0_image_76 : decode cX0_image 76 = .ok (.iinc 1 1, 3) := dk_132 1 1 (dk_at dksX0_image_3 6 rfl rfl)
theorem dX0_image_79 : decode cX0_image 79 = .ok (.goto (-45), 3) := dk_167 255 211 (dk_at dksX0_image_3 9 rfl rfl)
theorem dX0_image_82 : decode cX0_image 82 = .ok (.aload_n 0, 1) := dk_42 (dk_at dksX0_image_3 12 rfl rfl)
theorem dX0_image_83 : decode cX0_image 83 = .ok (.getfield 336, 3) := dk_180 1 80 (dk_at dksX0_image_3 13 rfl rfl)
theorem dX0_image_86 : decode cX0_image 86 = .ok (.iconst 0, 1) := dk_3 (dk_at dksX0_image_3 16 rfl rfl)
theorem dX0_image_87 : decode cX0_image 87 = .ok (.aload_n 0, 1) := dk_42 (dk_at dksX0_image_3 17 rfl rfl)
theorem dX0_image_88 : decode cX0_image 88 = .ok (.getfield 18, 3) := dk_180 0 18 (dk_at dksX0_image_3 18 rfl rfl)
theorem dX0_image_91 : decode cX0_image 91 = .ok (.iastore, 1) := dk_79 (dk_at dksX0_image_3 21 rfl rfl)
theorem dX0_image_92 : decode cX0_image 92 = .ok (.aload_n 0, 1) := dk_42 (dk_at dksX0_image_3 22 rfl rfl)
theorem dX0_image_93 : decode cX0_image 93 = .ok (.getfield 336, 3) := dk_180 1 80 (dk_at dksX0_image_4 0 rfl rfl)
theorem dX0_image_96 : decode cX0_image 96 = .ok (.iconst 1, 1) := dk_4 (dk_at dksX0_image_4 3 rfl rfl)
theorem dX0_image_97 : decode cX0_image 97 = .ok (.aload_n 0, 1) := dk_42 (dk_at dksX0_image_4 4 rfl rfl)
theorem dX0_image_98 : decode cX0_image 98 = .ok (.getfield 82, 3) := dk_180 0 82 (dk_at dksX0_image_4 5 rfl rfl)
theorem dX0_image_101 : decode cX0_image 101 = .ok (.iastore, 1) := dk_79 (dk_at dksX0_image_4 8 rfl rfl)
theorem dX0_image_102 : decode cX0_image 102 = .ok (.aload_n 0, 1) := dk_42 (dk_at dksX0_image_4 9 rfl rfl)
theorem dX0_image_103 : decode cX0_image 103 = .ok (.getfield 336, 3) := dk_180 1 80 (dk_at dksX0_image_4 10 rfl rfl)
theorem dX0_image_106 : decode cX0_image 106 = .ok (.iconst 2, 1) := dk_5 (dk_at dksX0_image_4 13 rfl rfl)
theorem dX0_image_107 : decode cX0_image 107 = .ok (.aload_n 0, 1) := dk_42 (dk_at dksX0_image_4 14 rfl rfl)
theorem dX0_image_108 : decode cX0_image 108 = .ok (.getfield 355, 3) := dk_180 1 99 (dk_at dksX0_image_4 15 rfl rfl)
theorem dX0_image_111 : decode cX0_image 111 = .ok (.iastore, 1) := dk_79 (dk_at dksX0_image_4 18 rfl rfl)
theorem dX0_image_112 : decode cX0_image 112 = .ok (.aload_n 0, 1) := dk_42 (dk_at dksX0_image_4 19 rfl rfl)
theorem dX0_image_113 : decode cX0_image 113 = .ok (.iconst 1, 1) := dk_4 (dk_at dksX0_image_4 20 rfl rfl)
theorem dX0_image_114 : decode cX0_image 114 = .ok (.putfield 531, 3) := dk_181 2 19 (dk_at dksX0_image_4 21 rfl rfl)
theorem dX0_image_117 : decode cX0_image 117 = .ok (.aload_n 0, 1) := dk_42 (dk_at dksX0_image_5 0 rfl rfl)
theorem dX0_image_118 : decode cX0_image 118 = .ok (.getfield 18, 3) := dk_180 0 18 (dk_at dksX0_image_5 1 rfl rfl)
theorem dX0_image_121 : decode cX0_image 121 = .ok (.ireturn, 1) := dk_172 (dk_at dksX0_image_5 4 rfl rfl)
abbrev cX0_back : ByteArray := prog_1_method_90_code
def yX0_back : MethodName := ⟨RX0, "back", "()I"⟩
def dkwX0_back_5 : List UInt8 := [132, 1, 1, 167, 255, 211, 42, 180, 0, 18, 172]
abbrev dktX0_back_5 : List UInt8 := dkwX0_back_5 ++ []
def dkwX0_back_4 : List UInt8 := [50, 27, 46, 181, 0, 85, 42, 180, 0, 47, 27, 50, 42, 180, 1, 77, 4, 50, 27, 46, 181, 0, 88]
abbrev dktX0_back_4 : List UInt8 := dkwX0_back_4 ++ dktX0_back_5
def dkwX0_back_3 : List UInt8 := [181, 1, 99, 3, 60, 27, 42, 180, 0, 18, 162, 0, 43, 42, 180, 0, 47, 27, 50, 42, 180, 1, 77, 3]
abbrev dktX0_back_3 : List UInt8 := dkwX0_back_3 ++ dktX0_back_4
def dkwX0_back_2 : List UInt8 := [3, 46, 181, 0, 18, 42, 42, 180, 1, 80, 4, 46, 181, 0, 82, 42, 42, 180, 1, 80, 5, 46]
abbrev dktX0_back_2 : List UInt8 := dkwX0_back_2 ++ dktX0_back_3
def dkwX0_back_1 : List UInt8 := [184, 1, 161, 42, 180, 1, 74, 4, 50, 3, 42, 180, 0, 65, 3, 7, 184, 1, 161, 42, 42, 180, 1, 80]
abbrev dktX0_back_1 : List UInt8 := dkwX0_back_1 ++ dktX0_back_2
def dkwX0_back_0 : List UInt8 := [42, 180, 2, 19, 154, 0, 6, 16, 253, 172, 42, 180, 1, 74, 3, 50, 3, 42, 180, 0, 61, 3, 7]
abbrev dktX0_back_0 : List UInt8 := dkwX0_back_0 ++ dktX0_back_1
theorem dksX0_back_0 : cX0_back.data.toList.drop 0 = dktX0_back_0 := by decide +kernel
theorem dksX0_back_1 : cX0_back.data.toList.drop 23 = dktX0_back_1 := dk_seg dksX0_back_0 23 rfl rfl
theorem dksX0_back_2 : cX0_back.data.toList.drop 47 = dktX0_back_2 := dk_seg dksX0_back_1 24 rfl rfl
theorem dksX0_back_3 : cX0_back.data.toList.drop 69 = dktX0_back_3 := dk_seg dksX0_back_2 22 rfl rfl
theorem dksX0_back_4 : cX0_back.data.toList.drop 93 = dktX0_back_4 := dk_seg dksX0_back_3 24 rfl rfl
theorem dksX0_back_5 : cX0_back.data.toList.drop 116 = dktX0_back_5 := dk_seg dksX0_back_4 23 rfl rfl
theorem dX0_back_0 : decode cX0_back 0 = .ok (.aload_n 0, 1) := dk_42 (dk_at dksX0_back_0 0 rfl rfl)
theorem dX0_back_1 : decode cX0_back 1 = .ok (.getfield 531, 3) := dk_180 2 19 (dk_at dksX0_back_0 1 rfl rfl)
theorem dX0_back_4 : decode cX0_back 4 = .ok (.ifCond .ne 6, 3) := dk_154 0 6 (dk_at dksX0_back_0 4 rfl rfl)
theorem dX0_back_7 : decode cX0_back 7 = .ok (.bipush (-3), 2) := dk_16 253 (dk_at dksX0_back_0 7 rfl rfl)
theorem dX0_back_9 : decode cX0_back 9 = .ok (.ireturn, 1) := dk_172 (dk_at dksX0_back_0 9 rfl rfl)
theorem dX0_back_10 : decode cX0_back 10 = .ok (.aload_n 0, 1) := dk_42 (dk_at dksX0_back_0 10 rfl rfl)
theorem dX0_back_11 : decode cX0_back 11 = .ok (.getfield 330, 3) := dk_180 1 74 (dk_at dksX0_back_0 11 rfl rfl)
theorem dX0_back_14 : decode cX0_back 14 = .ok (.iconst 0, 1) := dk_3 (dk_at dksX0_back_0 14 rfl rfl)
theorem dX0_back_15 : decode cX0_back 15 = .ok (.aaload, 1) := dk_50 (dk_at dksX0_back_0 15 rfl rfl)
theorem dX0_back_16 : decode cX0_back 16 = .ok (.iconst 0, 1) := dk_3 (dk_at dksX0_back_0 16 rfl rfl)
theorem dX0_back_17 : decode cX0_back 17 = .ok (.aload_n 0, 1) := dk_42 (dk_at dksX0_back_0 17 rfl rfl)
theorem dX0_back_18 : decode cX0_back 18 = .ok (.getfield 61, 3) := dk_180 0 61 (dk_at dksX0_back_0 18 rfl rfl)
theorem dX0_back_21 : decode cX0_back 21 = .ok (.iconst 0, 1) := dk_3 (dk_at dksX0_back_0 21 rfl rfl)
theorem dX0_back_22 : decode cX0_back 22 = .ok (.iconst 4, 1) := dk_7 (dk_at dksX0_back_0 22 rfl rfl)
theorem dX0_back_23 : decode cX0_back 23 = .ok (.invokestatic 417, 3) := dk_184 1 161 (dk_at dksX0_back_1 0 rfl rfl)
theorem dX0_back_26 : decode cX0_back 26 = .ok (.aload_n 0, 1) := dk_42 (dk_at dksX0_back_1 3 rfl rfl)
theorem dX0_back_27 : decode cX0_back 27 = .ok (.getfield 330, 3) := dk_180 1 74 (dk_at dksX0_back_1 4 rfl rfl)
theorem dX0_back_30 : decode cX0_back 30 = .ok (.iconst 1, 1) := dk_4 (dk_at dksX0_back_1 7 rfl rfl)
theorem dX0_back_31 : decode cX0_back 31 = .ok (.aaload, 1) := dk_50 (dk_at dksX0_back_1 8 rfl rfl)
theorem dX0_back_32 : decode cX0_back 32 = .ok (.iconst 0, 1) := dk_3 (dk_at dksX0_back_1 9 rfl rfl)
theorem dX0_back_33 : decode cX0_back 33 = .ok (.aload_n 0, 1) := dk_42 (dk_at dksX0_back_1 10 rfl rfl)
theorem dX0_back_34 : decode cX0_back 34 = .ok (.getfield 65, 3) := dk_180 0 65 (dk_at dksX0_back_1 11 rfl rfl)
theorem dX0_back_37 : decode cX0_back 37 = .ok (.iconst 0, 1) := dk_3 (dk_at dksX0_back_1 14 rfl rfl)
theorem dX0_back_38 : decode cX0_back 38 = .ok (.iconst 4, 1) := dk_7 (dk_at dksX0_back_1 15 rfl rfl)
theorem dX0_back_39 : decode cX0_back 39 = .ok (.invokestatic 417, 3) := dk_184 1 161 (dk_at dksX0_back_1 16 rfl rfl)
theorem dX0_back_42 : decode cX0_back 42 = .ok (.aload_n 0, 1) := dk_42 (dk_at dksX0_back_1 19 rfl rfl)
theorem dX0_back_43 : decode cX0_back 43 = .ok (.aload_n 0, 1) := dk_42 (dk_at dksX0_back_1 20 rfl rfl)
theorem dX0_back_44 : decode cX0_back 44 = .ok (.getfield 336, 3) := dk_180 1 80 (dk_at dksX0_back_1 21 rfl rfl)
theorem dX0_back_47 : decode cX0_back 47 = .ok (.iconst 0, 1) := dk_3 (dk_at dksX0_back_2 0 rfl rfl)
theorem dX0_back_48 : decode cX0_back 48 = .ok (.iaload, 1) := dk_46 (dk_at dksX0_back_2 1 rfl rfl)
theorem dX0_back_49 : decode cX0_back 49 = .ok (.putfield 18, 3) := dk_181 0 18 (dk_at dksX0_back_2 2 rfl rfl)
theorem dX0_back_52 : decode cX0_back 52 = .ok (.aload_n 0, 1) := dk_42 (dk_at dksX0_back_2 5 rfl rfl)
theorem dX0_back_53 : decode cX0_back 53 = .ok (.aload_n 0, 1) := dk_42 (dk_at dksX0_back_2 6 rfl rfl)
theorem dX0_back_54 : decode cX0_back 54 = .ok (.getfield 336, 3) := dk_180 1 80 (dk_at dksX0_back_2 7 rfl rfl)
theorem dX0_back_57 : decode cX0_back 57 = .ok (.iconst 1, 1) := dk_4 (dk_at dksX0_back_2 10 rfl rfl)
theorem dX0_back_58 : decode cX0_back 58 = .ok (.iaload, 1) := dk_46 (dk_at dksX0_back_2 11 rfl rfl)
theorem dX0_back_59 : decode cX0_back 59 = .ok (.putfield 82, 3) := dk_181 0 82 (dk_at dksX0_back_2 12 rfl rfl)
theorem dX0_back_62 : decode cX0_back 62 = .ok (.aload_n 0, 1) := dk_42 (dk_at dksX0_back_2 15 rfl rfl)
theorem dX0_back_63 : decode cX0_back 63 = .ok (.aload_n 0, 1) := dk_42 (dk_at dksX0_back_2 16 rfl rfl)
theorem dX0_back_64 : decode cX0_back 64 = .ok (.getfield 336, 3) := dk_180 1 80 (dk_at dksX0_back_2 17 rfl rfl)
theorem dX0_back_67 : decode cX0_back 67 = .ok (.iconst 2, 1) := dk_5 (dk_at dksX0_back_2 20 rfl rfl)
theorem dX0_back_68 : decode cX0_back 68 = .ok (.iaload, 1) := dk_46 (dk_at dksX0_back_2 21 rfl rfl)
theorem dX0_back_69 : decode cX0_back 69 = .ok (.putfield 355, 3) := dk_181 1 99 (dk_at dksX0_back_3 0 rfl rfl)
theorem dX0_back_72 : decode cX0_back 72 = .ok (.iconst 0, 1) := dk_3 (dk_at dksX0_back_3 3 rfl rfl)
theorem dX0_back_73 : decode cX0_back 73 = .ok (.istore_n 1, 1) := dk_60 (dk_at dksX0_back_3 4 rfl rfl)
theorem dX0_back_74 : decode cX0_back 74 = .ok (.iload_n 1, 1) := dk_27 (dk_at dksX0_back_3 5 rfl rfl)
theorem dX0_back_75 : decode cX0_back 75 = .ok (.aload_n 0, 1) := dk_42 (dk_at dksX0_back_3 6 rfl rfl)
theorem dX0_back_76 : decode cX0_back 76 = .ok (.getfield 18, 3) := dk_180 0 18 (dk_at dksX0_back_3 7 rfl rfl)
theorem dX0_back_79 : decode cX0_back 79 = .ok (.if_icmp .ge 43, 3) := dk_162 0 43 (dk_at dksX0_back_3 10 rfl rfl)
theorem dX0_back_82 : decode cX0_back 82 = .ok (.aload_n 0, 1) := dk_42 (dk_at dksX0_back_3 13 rfl rfl)
theorem dX0_back_83 : decode cX0_back 83 = .ok (.getfield 47, 3) := dk_180 0 47 (dk_at dksX0_back_3 14 rfl rfl)
theorem dX0_back_86 : decode cX0_back 86 = .ok (.iload_n 1, 1) := dk_27 (dk_at dksX0_back_3 17 rfl rfl)
theorem dX0_back_87 : decode cX0_back 87 = .ok (.aaload, 1) := dk_50 (dk_at dksX0_back_3 18 rfl rfl)
theorem dX0_back_88 : decode cX0_back 88 = .ok (.aload_n 0, 1) := dk_42 (dk_at dksX0_back_3 19 rfl rfl)
theorem dX0_back_89 : decode cX0_back 89 = .ok (.getfield 333, 3) := dk_180 1 77 (dk_at dksX0_back_3 20 rfl rfl)
theorem dX0_back_92 : decode cX0_back 92 = .ok (.iconst 0, 1) := dk_3 (dk_at dksX0_back_3 23 rfl rfl)
theorem dX0_back_93 : decode cX0_back 93 = .ok (.aaload, 1) := dk_50 (dk_at dksX0_back_4 0 rfl rfl)
theorem dX0_back_94 : decode cX0_back 94 = .ok (.iload_n 1, 1) := dk_27 (dk_at dksX0_back_4 1 rfl rfl)
theorem dX0_back_95 : decode cX0_back 95 = .ok (.iaload, 1) := dk_46 (dk_at dksX0_back_4 2 rfl rfl)
theorem dX0_back_96 : decode cX0_back 96 = .ok (.putfield 85, 3) := dk_181 0 85 (dk_at dksX0_back_4 3 rfl rfl)
theorem dX0_back_99 : decode cX0_back 99 = .ok (.aload_n 0, 1) := dk_42 (dk_at dksX0_back_4 6 rfl rfl)
theorem dX0_back_100 : decode cX0_back 100 = .ok (.getfield 47, 3) := dk_180 0 47 (dk_at dksX0_back_4 7 rfl rfl)
theorem dX0_back_103 : decode cX0_back 103 = .ok (.iload_n 1, 1) := dk_27 (dk_at dksX0_back_4 10 rfl rfl)
theorem dX0_back_104 : decode cX0_back 104 = .ok (.aaload, 1) := dk_50 (dk_at dksX0_back_4 11 rfl rfl)
theorem dX0_back_105 : decode cX0_back 105 = .ok (.aload_n 0, 1) := dk_42 (dk_at dksX0_back_4 12 rfl rfl)
theorem dX0_back_106 : decode cX0_back 106 = .ok (.getfield 333, 3) := dk_180 1 77 (dk_at dksX0_back_4 13 rfl rfl)
theorem dX0_back_109 : decode cX0_back 109 = .ok (.iconst 1, 1) := dk_4 (dk_at dksX0_back_4 16 rfl rfl)
theorem dX0_back_110 : decode cX0_back 110 = .ok (.aaload, 1) := dk_50 (dk_at dksX0_back_4 17 rfl rfl)
theorem dX0_back_111 : decode cX0_back 111 = .ok (.iload_n 1, 1) := dk_27 (dk_at dksX0_back_4 18 rfl rfl)
theorem dX0_back_112 : decode cX0_back 112 = .ok (.iaload, 1) := dk_46 (dk_at dksX0_back_4 19 rfl rfl)
theorem dX0_back_113 : decode cX0_back 113 = .ok (.putfield 88, 3) := dk_181 0 88 (dk_at dksX0_back_4 20 rfl rfl)
theorem dX0_back_116 : decode cX0_back 116 = .ok (.iinc 1 1, 3) := dk_132 1 1 (dk_at dksX0_back_5 0 rfl rfl)
theorem dX0_back_119 : decode cX0_back 119 = .ok (.goto (-45), 3) := dk_167 255 211 (dk_at dksX0_back_5 3 rfl rfl)
theorem dX0_back_122 : decode cX0_back 122 = .ok (.aload_n 0, 1) := dk_42 (dk_at dksX0_back_5 6 rfl rfl)
theorem dX0_back_123 : decode cX0_back 123 = .ok (.getfield 18, 3) := dk_180 0 18 (dk_at dksX0_back_5 7 rfl rfl)
theorem dX0_back_126 : decode cX0_back 126 = .ok (.ireturn, 1) := dk_172 (dk_at dksX0_back_5 10 rfl rfl)
abbrev cX0_count : ByteArray := prog_1_method_91_code
def yX0_count : MethodName := ⟨RX0, "count", "(I)I"⟩
def dkwX0_count_3 : List UInt8 := [172, 42, 180, 1, 99, 172, 16, 254, 172]
abbrev dktX0_count_3 : List UInt8 := dkwX0_count_3 ++ []
def dkwX0_count_2 : List UInt8 := [42, 180, 0, 18, 172, 42, 182, 1, 158, 172, 42, 180, 0, 82, 172, 42, 180, 1, 20, 172, 42, 180, 1, 9]
abbrev dktX0_count_2 : List UInt8 := dkwX0_count_2 ++ dktX0_count_3
def dkwX0_count_1 : List UInt8 := [170, 0, 0, 0, 0, 0, 69, 0, 0, 0, 0, 0, 0, 0, 5, 0, 0, 0, 39, 0, 0, 0, 44, 0, 0, 0, 49, 0, 0, 0, 54, 0, 0, 0, 59, 0, 0, 0, 64]
abbrev dktX0_count_1 : List UInt8 := dkwX0_count_1 ++ dktX0_count_2
def dkwX0_count_0 : List UInt8 := [27]
abbrev dktX0_count_0 : List UInt8 := dkwX0_count_0 ++ dktX0_count_1
theorem dksX0_count_0 : cX0_count.data.toList.drop 0 = dktX0_count_0 := by decide +kernel
theorem dksX0_count_1 : cX0_count.data.toList.drop 1 = dktX0_count_1 := dk_seg dksX0_count_0 1 rfl rfl
theorem dksX0_count_2 : cX0_count.data.toList.drop 40 = dktX0_count_2 := dk_seg dksX0_count_1 39 rfl rfl
theorem dksX0_count_3 : cX0_count.data.toList.drop 64 = dktX0_count_3 := dk_seg dksX0_count_2 24 rfl rfl
theorem dX0_count_0 : decode cX0_count 0 = .ok (.iload_n 1, 1) := dk_27 (dk_at dksX0_count_0 0 rfl rfl)
theorem dX0_count_1 : decode cX0_count 1 = .ok (.tableswitch 69 0 5 #[39, 44, 49, 54, 59, 64], 39) := by decide +kernel
theorem dX0_count_40 : decode cX0_count 40 = .ok (.aload_n 0, 1) := dk_42 (dk_at dksX0_count_2 0 rfl rfl)
theorem dX0_count_41 : decode cX0_count 41 = .ok (.getfield 18, 3) := dk_180 0 18 (dk_at dksX0_count_2 1 rfl rfl)
theorem dX0_count_44 : decode cX0_count 44 = .ok (.ireturn, 1) := dk_172 (dk_at dksX0_count_2 4 rfl rfl)
theorem dX0_count_45 : decode cX0_count 45 = .ok (.aload_n 0, 1) := dk_42 (dk_at dksX0_count_2 5 rfl rfl)
theorem dX0_count_46 : decode cX0_count 46 = .ok (.invokevirtual 414, 3) := dk_182 1 158 (dk_at dksX0_count_2 6 rfl rfl)
theorem dX0_count_49 : decode cX0_count 49 = .ok (.ireturn, 1) := dk_172 (dk_at dksX0_count_2 9 rfl rfl)
theorem dX0_count_50 : decode cX0_count 50 = .ok (.aload_n 0, 1) := dk_42 (dk_at dksX0_count_2 10 rfl rfl)
theorem dX0_count_51 : decode cX0_count 51 = .ok (.getfield 82, 3) := dk_180 0 82 (dk_at dksX0_count_2 11 rfl rfl)
theorem dX0_count_54 : decode cX0_count 54 = .ok (.ireturn, 1) := dk_172 (dk_at dksX0_count_2 14 rfl rfl)
theorem dX0_count_55 : decode cX0_count 55 = .ok (.aload_n 0, 1) := dk_42 (dk_at dksX0_count_2 15 rfl rfl)
theorem dX0_count_56 : decode cX0_count 56 = .ok (.getfield 276, 3) := dk_180 1 20 (dk_at dksX0_count_2 16 rfl rfl)
theorem dX0_count_59 : decode cX0_count 59 = .ok (.ireturn, 1) := dk_172 (dk_at dksX0_count_2 19 rfl rfl)
theorem dX0_count_60 : decode cX0_count 60 = .ok (.aload_n 0, 1) := dk_42 (dk_at dksX0_count_2 20 rfl rfl)
theorem dX0_count_61 : decode cX0_count 61 = .ok (.getfield 265, 3) := dk_180 1 9 (dk_at dksX0_count_2 21 rfl rfl)
theorem dX0_count_64 : decode cX0_count 64 = .ok (.ireturn, 1) := dk_172 (dk_at dksX0_count_3 0 rfl rfl)
theorem dX0_count_65 : decode cX0_count 65 = .ok (.aload_n 0, 1) := dk_42 (dk_at dksX0_count_3 1 rfl rfl)
theorem dX0_count_66 : decode cX0_count 66 = .ok (.getfield 355, 3) := dk_180 1 99 (dk_at dksX0_count_3 2 rfl rfl)
theorem dX0_count_69 : decode cX0_count 69 = .ok (.ireturn, 1) := dk_172 (dk_at dksX0_count_3 5 rfl rfl)
theorem dX0_count_70 : decode cX0_count 70 = .ok (.bipush (-2), 2) := dk_16 254 (dk_at dksX0_count_3 6 rfl rfl)
theorem dX0_count_72 : decode cX0_count 72 = .ok (.ireturn, 1) := dk_172 (dk_at dksX0_count_3 8 rfl rfl)
abbrev cX0_copy : ByteArray := prog_1_method_101_code
def yX0_copy : MethodName := ⟨RX0, "copy", "(IIIII)I"⟩
def dkwX0_copy_6 : List UInt8 := [172, 25, 6, 28, 25, 7, 21, 4, 21, 5, 184, 1, 161, 21, 5, 172]
abbrev dktX0_copy_6 : List UInt8 := dkwX0_copy_6 ++ []
def dkwX0_copy_5 : List UInt8 := [163, 0, 22, 21, 5, 21, 8, 28, 100, 163, 0, 13, 21, 5, 21, 9, 21, 4, 100, 164, 0, 6, 16, 244]
abbrev dktX0_copy_5 : List UInt8 := dkwX0_copy_5 ++ dktX0_copy_6
def dkwX0_copy_4 : List UInt8 := [155, 0, 44, 28, 155, 0, 40, 21, 4, 155, 0, 35, 28, 21, 8, 163, 0, 29, 21, 4, 21, 9]
abbrev dktX0_copy_4 : List UInt8 := dkwX0_copy_4 ++ dktX0_copy_5
def dkwX0_copy_3 : List UInt8 := [25, 6, 184, 1, 211, 184, 1, 215, 54, 8, 25, 7, 25, 7, 184, 1, 211, 184, 1, 215, 54, 9, 21, 5]
abbrev dktX0_copy_3 : List UInt8 := dkwX0_copy_3 ++ dktX0_copy_4
def dkwX0_copy_2 : List UInt8 := [199, 0, 6, 16, 245, 172, 25, 6, 184, 1, 211, 25, 7, 184, 1, 211, 159, 0, 6, 16, 243, 172, 25, 6]
abbrev dktX0_copy_2 : List UInt8 := dkwX0_copy_2 ++ dktX0_copy_3
def dkwX0_copy_1 : List UInt8 := [180, 1, 243, 58, 6, 42, 180, 1, 86, 29, 50, 180, 1, 243, 58, 7, 25, 6, 198, 0, 8, 25, 7]
abbrev dktX0_copy_1 : List UInt8 := dkwX0_copy_1 ++ dktX0_copy_2
def dkwX0_copy_0 : List UInt8 := [27, 184, 1, 238, 153, 0, 10, 29, 184, 1, 238, 154, 0, 6, 16, 254, 172, 42, 180, 1, 86, 27, 50]
abbrev dktX0_copy_0 : List UInt8 := dkwX0_copy_0 ++ dktX0_copy_1
theorem dksX0_copy_0 : cX0_copy.data.toList.drop 0 = dktX0_copy_0 := by decide +kernel
theorem dksX0_copy_1 : cX0_copy.data.toList.drop 23 = dktX0_copy_1 := dk_seg dksX0_copy_0 23 rfl rfl
theorem dksX0_copy_2 : cX0_copy.data.toList.drop 46 = dktX0_copy_2 := dk_seg dksX0_copy_1 23 rfl rfl
theorem dksX0_copy_3 : cX0_copy.data.toList.drop 70 = dktX0_copy_3 := dk_seg dksX0_copy_2 24 rfl rfl
theorem dksX0_copy_4 : cX0_copy.data.toList.drop 94 = dktX0_copy_4 := dk_seg dksX0_copy_3 24 rfl rfl
theorem dksX0_copy_5 : cX0_copy.data.toList.drop 116 = dktX0_copy_5 := dk_seg dksX0_copy_4 22 rfl rfl
theorem dksX0_copy_6 : cX0_copy.data.toList.drop 140 = dktX0_copy_6 := dk_seg dksX0_copy_5 24 rfl rfl
theorem dX0_copy_0 : decode cX0_copy 0 = .ok (.iload_n 1, 1) := dk_27 (dk_at dksX0_copy_0 0 rfl rfl)
theorem dX0_copy_1 : decode cX0_copy 1 = .ok (.invokestatic 494, 3) := dk_184 1 238 (dk_at dksX0_copy_0 1 rfl rfl)
theorem dX0_copy_4 : decode cX0_copy 4 = .ok (.ifCond .eq 10, 3) := dk_153 0 10 (dk_at dksX0_copy_0 4 rfl rfl)
theorem dX0_copy_7 : decode cX0_copy 7 = .ok (.iload_n 3, 1) := dk_29 (dk_at dksX0_copy_0 7 rfl rfl)
theorem dX0_copy_8 : decode cX0_copy 8 = .ok (.invokestatic 494, 3) := dk_184 1 238 (dk_at dksX0_copy_0 8 rfl rfl)
theorem dX0_copy_11 : decode cX0_copy 11 = .ok (.ifCond .ne 6, 3) := dk_154 0 6 (dk_at dksX0_copy_0 11 rfl rfl)
theorem dX0_copy_14 : decode cX0_copy 14 = .ok (.bipush (-2), 2) := dk_16 254 (dk_at dksX0_copy_0 14 rfl rfl)
theorem dX0_copy_16 : decode cX0_copy 16 = .ok (.ireturn, 1) := dk_172 (dk_at dksX0_copy_0 16 rfl rfl)
theorem dX0_copy_17 : decode cX0_copy 17 = .ok (.aload_n 0, 1) := dk_42 (dk_at dksX0_copy_0 17 rfl rfl)
theorem dX0_copy_18 : decode cX0_copy 18 = .ok (.getfield 342, 3) := dk_180 1 86 (dk_at dksX0_copy_0 18 rfl rfl)
theorem dX0_copy_21 : decode cX0_copy 21 = .ok (.iload_n 1, 1) := dk_27 (dk_at dksX0_copy_0 21 rfl rfl)
theorem dX0_copy_22 : decode cX0_copy 22 = .ok (.aaload, 1) := dk_50 (dk_at dksX0_copy_0 22 rfl rfl)
theorem dX0_copy_23 : decode cX0_copy 23 = .ok (.getfield 499, 3) := dk_180 1 243 (dk_at dksX0_copy_1 0 rfl rfl)
theorem dX0_copy_26 : decode cX0_copy 26 = .ok (.astore 6, 2) := dk_58 6 (dk_at dksX0_copy_1 3 rfl rfl)
theorem dX0_copy_28 : decode cX0_copy 28 = .ok (.aload_n 0, 1) := dk_42 (dk_at dksX0_copy_1 5 rfl rfl)
theorem dX0_copy_29 : decode cX0_copy 29 = .ok (.getfield 342, 3) := dk_180 1 86 (dk_at dksX0_copy_1 6 rfl rfl)
theorem dX0_copy_32 : decode cX0_copy 32 = .ok (.iload_n 3, 1) := dk_29 (dk_at dksX0_copy_1 9 rfl rfl)
theorem dX0_copy_33 : decode cX0_copy 33 = .ok (.aaload, 1) := dk_50 (dk_at dksX0_copy_1 10 rfl rfl)
theorem dX0_copy_34 : decode cX0_copy 34 = .ok (.getfield 499, 3) := dk_180 1 243 (dk_at dksX0_copy_1 11 rfl rfl)
theorem dX0_copy_37 : decode cX0_copy 37 = .ok (.astore 7, 2) := dk_58 7 (dk_at dksX0_copy_1 14 rfl rfl)
theorem dX0_copy_39 : decode cX0_copy 39 = .ok (.aload 6, 2) := dk_25 6 (dk_at dksX0_copy_1 16 rfl rfl)
theorem dX0_copy_41 : decode cX0_copy 41 = .ok (.ifnull 8, 3) := dk_198 0 8 (dk_at dksX0_copy_1 18 rfl rfl)
theorem dX0_copy_44 : decode cX0_copy 44 = .ok (.aload 7, 2) := dk_25 7 (dk_at dksX0_copy_1 21 rfl rfl)
theorem dX0_copy_46 : decode cX0_copy 46 = .ok (.ifnonnull 6, 3) := dk_199 0 6 (dk_at dksX0_copy_2 0 rfl rfl)
theorem dX0_copy_49 : decode cX0_copy 49 = .ok (.bipush (-11), 2) := dk_16 245 (dk_at dksX0_copy_2 3 rfl rfl)
theorem dX0_copy_51 : decode cX0_copy 51 = .ok (.ireturn, 1) := dk_172 (dk_at dksX0_copy_2 5 rfl rfl)
theorem dX0_copy_52 : decode cX0_copy 52 = .ok (.aload 6, 2) := dk_25 6 (dk_at dksX0_copy_2 6 rfl rfl)
theorem dX0_copy_54 : decode cX0_copy 54 = .ok (.invokestatic 467, 3) := dk_184 1 211 (dk_at dksX0_copy_2 8 rfl rfl)
theorem dX0_copy_57 : decode cX0_copy 57 = .ok (.aload 7, 2) := dk_25 7 (dk_at dksX0_copy_2 11 rfl rfl)
theorem dX0_copy_59 : decode cX0_copy 59 = .ok (.invokestatic 467, 3) := dk_184 1 211 (dk_at dksX0_copy_2 13 rfl rfl)
theorem dX0_copy_62 : decode cX0_copy 62 = .ok (.if_icmp .eq 6, 3) := dk_159 0 6 (dk_at dksX0_copy_2 16 rfl rfl)
theorem dX0_copy_65 : decode cX0_copy 65 = .ok (.bipush (-13), 2) := dk_16 243 (dk_at dksX0_copy_2 19 rfl rfl)
theorem dX0_copy_67 : decode cX0_copy 67 = .ok (.ireturn, 1) := dk_172 (dk_at dksX0_copy_2 21 rfl rfl)
theorem dX0_copy_68 : decode cX0_copy 68 = .ok (.aload 6, 2) := dk_25 6 (dk_at dksX0_copy_2 22 rfl rfl)
theorem dX0_copy_70 : decode cX0_copy 70 = .ok (.aload 6, 2) := dk_25 6 (dk_at dksX0_copy_3 0 rfl rfl)
theorem dX0_copy_72 : decode cX0_copy 72 = .ok (.invokestatic 467, 3) := dk_184 1 211 (dk_at dksX0_copy_3 2 rfl rfl)
theorem dX0_copy_75 : decode cX0_copy 75 = .ok (.invokestatic 471, 3) := dk_184 1 215 (dk_at dksX0_copy_3 5 rfl rfl)
theorem dX0_copy_78 : decode cX0_copy 78 = .ok (.istore 8, 2) := dk_54 8 (dk_at dksX0_copy_3 8 rfl rfl)
theorem dX0_copy_80 : decode cX0_copy 80 = .ok (.aload 7, 2) := dk_25 7 (dk_at dksX0_copy_3 10 rfl rfl)
theorem dX0_copy_82 : decode cX0_copy 82 = .ok (.aload 7, 2) := dk_25 7 (dk_at dksX0_copy_3 12 rfl rfl)
theorem dX0_copy_84 : decode cX0_copy 84 = .ok (.invokestatic 467, 3) := dk_184 1 211 (dk_at dksX0_copy_3 14 rfl rfl)
theorem dX0_copy_87 : decode cX0_copy 87 = .ok (.invokestatic 471, 3) := dk_184 1 215 (dk_at dksX0_copy_3 17 rfl rfl)
theorem dX0_copy_90 : decode cX0_copy 90 = .ok (.istore 9, 2) := dk_54 9 (dk_at dksX0_copy_3 20 rfl rfl)
theorem dX0_copy_92 : decode cX0_copy 92 = .ok (.iload 5, 2) := dk_21 5 (dk_at dksX0_copy_3 22 rfl rfl)
theorem dX0_copy_94 : decode cX0_copy 94 = .ok (.ifCond .lt 44, 3) := dk_155 0 44 (dk_at dksX0_copy_4 0 rfl rfl)
theorem dX0_copy_97 : decode cX0_copy 97 = .ok (.iload_n 2, 1) := dk_28 (dk_at dksX0_copy_4 3 rfl rfl)
theorem dX0_copy_98 : decode cX0_copy 98 = .ok (.ifCond .lt 40, 3) := dk_155 0 40 (dk_at dksX0_copy_4 4 rfl rfl)
theorem dX0_copy_101 : decode cX0_copy 101 = .ok (.iload 4, 2) := dk_21 4 (dk_at dksX0_copy_4 7 rfl rfl)
theorem dX0_copy_103 : decode cX0_copy 103 = .ok (.ifCond .lt 35, 3) := dk_155 0 35 (dk_at dksX0_copy_4 9 rfl rfl)
theorem dX0_copy_106 : decode cX0_copy 106 = .ok (.iload_n 2, 1) := dk_28 (dk_at dksX0_copy_4 12 rfl rfl)
theorem dX0_copy_107 : decode cX0_copy 107 = .ok (.iload 8, 2) := dk_21 8 (dk_at dksX0_copy_4 13 rfl rfl)
theorem dX0_copy_109 : decode cX0_copy 109 = .ok (.if_icmp .gt 29, 3) := dk_163 0 29 (dk_at dksX0_copy_4 15 rfl rfl)
theorem dX0_copy_112 : decode cX0_copy 112 = .ok (.iload 4, 2) := dk_21 4 (dk_at dksX0_copy_4 18 rfl rfl)
theorem dX0_copy_114 : decode cX0_copy 114 = .ok (.iload 9, 2) := dk_21 9 (dk_at dksX0_copy_4 20 rfl rfl)
theorem dX0_copy_116 : decode cX0_copy 116 = .ok (.if_icmp .gt 22, 3) := dk_163 0 22 (dk_at dksX0_copy_5 0 rfl rfl)
theorem dX0_copy_119 : decode cX0_copy 119 = .ok (.iload 5, 2) := dk_21 5 (dk_at dksX0_copy_5 3 rfl rfl)
theorem dX0_copy_121 : decode cX0_copy 121 = .ok (.iload 8, 2) := dk_21 8 (dk_at dksX0_copy_5 5 rfl rfl)
theorem dX0_copy_123 : decode cX0_copy 123 = .ok (.iload_n 2, 1) := dk_28 (dk_at dksX0_copy_5 7 rfl rfl)
theorem dX0_copy_124 : decode cX0_copy 124 = .ok (.isub, 1) := dk_100 (dk_at dksX0_copy_5 8 rfl rfl)
theorem dX0_copy_125 : decode cX0_copy 125 = .ok (.if_icmp .gt 13, 3) := dk_163 0 13 (dk_at dksX0_copy_5 9 rfl rfl)
theorem dX0_copy_128 : decode cX0_copy 128 = .ok (.iload 5, 2) := dk_21 5 (dk_at dksX0_copy_5 12 rfl rfl)
theorem dX0_copy_130 : decode cX0_copy 130 = .ok (.iload 9, 2) := dk_21 9 (dk_at dksX0_copy_5 14 rfl rfl)
theorem dX0_copy_132 : decode cX0_copy 132 = .ok (.iload 4, 2) := dk_21 4 (dk_at dksX0_copy_5 16 rfl rfl)
theorem dX0_copy_134 : decode cX0_copy 134 = .ok (.isub, 1) := dk_100 (dk_at dksX0_copy_5 18 rfl rfl)
theorem dX0_copy_135 : decode cX0_copy 135 = .ok (.if_icmp .le 6, 3) := dk_164 0 6 (dk_at dksX0_copy_5 19 rfl rfl)
theorem dX0_copy_138 : decode cX0_copy 138 = .ok (.bipush (-12), 2) := dk_16 244 (dk_at dksX0_copy_5 22 rfl rfl)
theorem dX0_copy_140 : decode cX0_copy 140 = .ok (.ireturn, 1) := dk_172 (dk_at dksX0_copy_6 0 rfl rfl)
theorem dX0_copy_141 : decode cX0_copy 141 = .ok (.aload 6, 2) := dk_25 6 (dk_at dksX0_copy_6 1 rfl rfl)
theorem dX0_copy_143 : decode cX0_copy 143 = .ok (.iload_n 2, 1) := dk_28 (dk_at dksX0_copy_6 3 rfl rfl)
theorem dX0_copy_144 : decode cX0_copy 144 = .ok (.aload 7, 2) := dk_25 7 (dk_at dksX0_copy_6 4 rfl rfl)
theorem dX0_copy_146 : decode cX0_copy 146 = .ok (.iload 4, 2) := dk_21 4 (dk_at dksX0_copy_6 6 rfl rfl)
theorem dX0_copy_148 : decode cX0_copy 148 = .ok (.iload 5, 2) := dk_21 5 (dk_at dksX0_copy_6 8 rfl rfl)
theorem dX0_copy_150 : decode cX0_copy 150 = .ok (.invokestatic 417, 3) := dk_184 1 161 (dk_at dksX0_copy_6 10 rfl rfl)
theorem dX0_copy_153 : decode cX0_copy 153 = .ok (.iload 5, 2) := dk_21 5 (dk_at dksX0_copy_6 13 rfl rfl)
theorem dX0_copy_155 : decode cX0_copy 155 = .ok (.ireturn, 1) := dk_172 (dk_at dksX0_copy_6 15 rfl rfl)
abbrev cX0_gleaners : ByteArray := prog_1_method_103_code
def yX0_gleaners : MethodName := ⟨RX0, "gleaners", "(IIII)I"⟩
def dkwX0_gleaners_2 : List UInt8 := [21, 4, 182, 2, 50, 172, 58, 5, 16, 243, 172, 58, 5, 16, 245, 172, 58, 5, 16, 244, 172]
abbrev dktX0_gleaners_2 : List UInt8 := dkwX0_gleaners_2 ++ []
def dkwX0_gleaners_1 : List UInt8 := [20, 0, 43, 184, 0, 14, 154, 0, 6, 16, 254, 172, 42, 42, 180, 1, 86, 27, 50, 180, 1, 243, 28, 29]
abbrev dktX0_gleaners_1 : List UInt8 := dkwX0_gleaners_1 ++ dktX0_gleaners_2
def dkwX0_gleaners_0 : List UInt8 := [27, 184, 1, 238, 153, 0, 28, 28, 133, 9, 20, 2, 24, 184, 0, 14, 153, 0, 16, 21, 4, 133, 9]
abbrev dktX0_gleaners_0 : List UInt8 := dkwX0_gleaners_0 ++ dktX0_gleaners_1
theorem dksX0_gleaners_0 : cX0_gleaners.data.toList.drop 0 = dktX0_gleaners_0 := by decide +kernel
theorem dksX0_gleaners_1 : cX0_gleaners.data.toList.drop 23 = dktX0_gleaners_1 := dk_seg dksX0_gleaners_0 23 rfl rfl
theorem dksX0_gleaners_2 : cX0_gleaners.data.toList.drop 47 = dktX0_gleaners_2 := dk_seg dksX0_gleaners_1 24 rfl rfl
theorem dX0_gleaners_0 : decode cX0_gleaners 0 = .ok (.iload_n 1, 1) := dk_27 (dk_at dksX0_gleaners_0 0 rfl rfl)
theorem dX0_gleaners_1 : decode cX0_gleaners 1 = .ok (.invokestatic 494, 3) := dk_184 1 238 (dk_at dksX0_gleaners_0 1 rfl rfl)
theorem dX0_gleaners_4 : decode cX0_gleaners 4 = .ok (.ifCond .eq 28, 3) := dk_153 0 28 (dk_at dksX0_gleaners_0 4 rfl rfl)
theorem dX0_gleaners_7 : decode cX0_gleaners 7 = .ok (.iload_n 2, 1) := dk_28 (dk_at dksX0_gleaners_0 7 rfl rfl)
theorem dX0_gleaners_8 : decode cX0_gleaners 8 = .ok (.i2l, 1) := dk_133 (dk_at dksX0_gleaners_0 8 rfl rfl)
theorem dX0_gleaners_9 : decode cX0_gleaners 9 = .ok (.lconst 0, 1) := dk_9 (dk_at dksX0_gleaners_0 9 rfl rfl)
theorem dX0_gleaners_10 : decode cX0_gleaners 10 = .ok (.ldc2_w 536, 3) := dk_20 2 24 (dk_at dksX0_gleaners_0 10 rfl rfl)
theorem dX0_gleaners_13 : decode cX0_gleaners 13 = .ok (.invokestatic 14, 3) := dk_184 0 14 (dk_at dksX0_gleaners_0 13 rfl rfl)
theorem dX0_gleaners_16 : decode cX0_gleaners 16 = .ok (.ifCond .eq 16, 3) := dk_153 0 16 (dk_at dksX0_gleaners_0 16 rfl rfl)
theorem dX0_gleaners_19 : decode cX0_gleaners 19 = .ok (.iload 4, 2) := dk_21 4 (dk_at dksX0_gleaners_0 19 rfl rfl)
theorem dX0_gleaners_21 : decode cX0_gleaners 21 = .ok (.i2l, 1) := dk_133 (dk_at dksX0_gleaners_0 21 rfl rfl)
theorem dX0_gleaners_22 : decode cX0_gleaners 22 = .ok (.lconst 0, 1) := dk_9 (dk_at dksX0_gleaners_0 22 rfl rfl)
theorem dX0_gleaners_23 : decode cX0_gleaners 23 = .ok (.ldc2_w 43, 3) := dk_20 0 43 (dk_at dksX0_gleaners_1 0 rfl rfl)
theorem dX0_gleaners_26 : decode cX0_gleaners 26 = .ok (.invokestatic 14, 3) := dk_184 0 14 (dk_at dksX0_gleaners_1 3 rfl rfl)
theorem dX0_gleaners_29 : decode cX0_gleaners 29 = .ok (.ifCond .ne 6, 3) := dk_154 0 6 (dk_at dksX0_gleaners_1 6 rfl rfl)
theorem dX0_gleaners_32 : decode cX0_gleaners 32 = .ok (.bipush (-2), 2) := dk_16 254 (dk_at dksX0_gleaners_1 9 rfl rfl)
theorem dX0_gleaners_34 : decode cX0_gleaners 34 = .ok (.ireturn, 1) := dk_172 (dk_at dksX0_gleaners_1 11 rfl rfl)
theorem dX0_gleaners_35 : decode cX0_gleaners 35 = .ok (.aload_n 0, 1) := dk_42 (dk_at dksX0_gleaners_1 12 rfl rfl)
theorem dX0_gleaners_36 : decode cX0_gleaners 36 = .ok (.aload_n 0, 1) := dk_42 (dk_at dksX0_gleaners_1 13 rfl rfl)
theorem dX0_gleaners_37 : decode cX0_gleaners 37 = .ok (.getfield 342, 3) := dk_180 1 86 (dk_at dksX0_gleaners_1 14 rfl rfl)
theorem dX0_gleaners_40 : decode cX0_gleaners 40 = .ok (.iload_n 1, 1) := dk_27 (dk_at dksX0_gleaners_1 17 rfl rfl)
theorem dX0_gleaners_41 : decode cX0_gleaners 41 = .ok (.aaload, 1) := dk_50 (dk_at dksX0_gleaners_1 18 rfl rfl)
theorem dX0_gleaners_42 : decode cX0_gleaners 42 = .ok (.getfield 499, 3) := dk_180 1 243 (dk_at dksX0_gleaners_1 19 rfl rfl)
theorem dX0_gleaners_45 : decode cX0_gleaners 45 = .ok (.iload_n 2, 1) := dk_28 (dk_at dksX0_gleaners_1 22 rfl rfl)
theorem dX0_gleaners_46 : decode cX0_gleaners 46 = .ok (.iload_n 3, 1) := dk_29 (dk_at dksX0_gleaners_1 23 rfl rfl)
theorem dX0_gleaners_47 : decode cX0_gleaners 47 = .ok (.iload 4, 2) := dk_21 4 (dk_at dksX0_gleaners_2 0 rfl rfl)
theorem dX0_gleaners_49 : decode cX0_gleaners 49 = .ok (.invokevirtual 562, 3) := dk_182 2 50 (dk_at dksX0_gleaners_2 2 rfl rfl)
theorem dX0_gleaners_52 : decode cX0_gleaners 52 = .ok (.ireturn, 1) := dk_172 (dk_at dksX0_gleaners_2 5 rfl rfl)
theorem dX0_gleaners_53 : decode cX0_gleaners 53 = .ok (.astore 5, 2) := dk_58 5 (dk_at dksX0_gleaners_2 6 rfl rfl)
theorem dX0_gleaners_55 : decode cX0_gleaners 55 = .ok (.bipush (-13), 2) := dk_16 243 (dk_at dksX0_gleaners_2 8 rfl rfl)
theorem dX0_gleaners_57 : decode cX0_gleaners 57 = .ok (.ireturn, 1) := dk_172 (dk_at dksX0_gleaners_2 10 rfl rfl)
theorem dX0_gleaners_58 : decode cX0_gleaners 58 = .ok (.astore 5, 2) := dk_58 5 (dk_at dksX0_gleaners_2 11 rfl rfl)
theorem dX0_gleaners_60 : decode cX0_gleaners 60 = .ok (.bipush (-11), 2) := dk_16 245 (dk_at dksX0_gleaners_2 13 rfl rfl)
theorem dX0_gleaners_62 : decode cX0_gleaners 62 = .ok (.ireturn, 1) := dk_172 (dk_at dksX0_gleaners_2 15 rfl rfl)
theorem dX0_gleaners_63 : decode cX0_gleaners 63 = .ok (.astore 5, 2) := dk_58 5 (dk_at dksX0_gleaners_2 16 rfl rfl)
theorem dX0_gleaners_65 : decode cX0_gleaners 65 = .ok (.bipush (-12), 2) := dk_16 244 (dk_at dksX0_gleaners_2 18 rfl rfl)
theorem dX0_gleaners_67 : decode cX0_gleaners 67 = .ok (.ireturn, 1) := dk_172 (dk_at dksX0_gleaners_2 20 rfl rfl)
abbrev cX0_came : ByteArray := prog_1_method_102_code
def yX0_came : MethodName := ⟨RX0, "came", "(Ljava/lang/Object;III)I"⟩
def dkwX0_came_3 : List UInt8 := [21, 6, 172]
abbrev dktX0_came_3 : List UInt8 := dkwX0_came_3 ++ []
def dkwX0_came_2 : List UInt8 := [184, 1, 219, 182, 2, 47, 155, 0, 7, 4, 167, 0, 4, 3, 96, 54, 6, 132, 7, 1, 167, 255, 201]
abbrev dktX0_came_2 : List UInt8 := dkwX0_came_2 ++ dktX0_came_3
def dkwX0_came_1 : List UInt8 := [21, 7, 104, 96, 184, 1, 219, 54, 8, 21, 6, 42, 21, 8, 43, 28, 29, 5, 21, 7, 104, 96, 4, 96]
abbrev dktX0_came_1 : List UInt8 := dkwX0_came_1 ++ dktX0_came_2
def dkwX0_came_0 : List UInt8 := [43, 28, 184, 1, 215, 54, 5, 3, 54, 6, 3, 54, 7, 21, 7, 21, 4, 162, 0, 54, 43, 28, 29, 5]
abbrev dktX0_came_0 : List UInt8 := dkwX0_came_0 ++ dktX0_came_1
theorem dksX0_came_0 : cX0_came.data.toList.drop 0 = dktX0_came_0 := by decide +kernel
theorem dksX0_came_1 : cX0_came.data.toList.drop 24 = dktX0_came_1 := dk_seg dksX0_came_0 24 rfl rfl
theorem dksX0_came_2 : cX0_came.data.toList.drop 48 = dktX0_came_2 := dk_seg dksX0_came_1 24 rfl rfl
theorem dksX0_came_3 : cX0_came.data.toList.drop 71 = dktX0_came_3 := dk_seg dksX0_came_2 23 rfl rfl
theorem dX0_came_0 : decode cX0_came 0 = .ok (.aload_n 1, 1) := dk_43 (dk_at dksX0_came_0 0 rfl rfl)
theorem dX0_came_1 : decode cX0_came 1 = .ok (.iload_n 2, 1) := dk_28 (dk_at dksX0_came_0 1 rfl rfl)
theorem dX0_came_2 : decode cX0_came 2 = .ok (.invokestatic 471, 3) := dk_184 1 215 (dk_at dksX0_came_0 2 rfl rfl)
theorem dX0_came_5 : decode cX0_came 5 = .ok (.istore 5, 2) := dk_54 5 (dk_at dksX0_came_0 5 rfl rfl)
theorem dX0_came_7 : decode cX0_came 7 = .ok (.iconst 0, 1) := dk_3 (dk_at dksX0_came_0 7 rfl rfl)
theorem dX0_came_8 : decode cX0_came 8 = .ok (.istore 6, 2) := dk_54 6 (dk_at dksX0_came_0 8 rfl rfl)
theorem dX0_came_10 : decode cX0_came 10 = .ok (.iconst 0, 1) := dk_3 (dk_at dksX0_came_0 10 rfl rfl)
theorem dX0_came_11 : decode cX0_came 11 = .ok (.istore 7, 2) := dk_54 7 (dk_at dksX0_came_0 11 rfl rfl)
theorem dX0_came_13 : decode cX0_came 13 = .ok (.iload 7, 2) := dk_21 7 (dk_at dksX0_came_0 13 rfl rfl)
theorem dX0_came_15 : decode cX0_came 15 = .ok (.iload 4, 2) := dk_21 4 (dk_at dksX0_came_0 15 rfl rfl)
theorem dX0_came_17 : decode cX0_came 17 = .ok (.if_icmp .ge 54, 3) := dk_162 0 54 (dk_at dksX0_came_0 17 rfl rfl)
theorem dX0_came_20 : decode cX0_came 20 = .ok (.aload_n 1, 1) := dk_43 (dk_at dksX0_came_0 20 rfl rfl)
theorem dX0_came_21 : decode cX0_came 21 = .ok (.iload_n 2, 1) := dk_28 (dk_at dksX0_came_0 21 rfl rfl)
theorem dX0_came_22 : decode cX0_came 22 = .ok (.iload_n 3, 1) := dk_29 (dk_at dksX0_came_0 22 rfl rfl)
theorem dX0_came_23 : decode cX0_came 23 = .ok (.iconst 2, 1) := dk_5 (dk_at dksX0_came_0 23 rfl rfl)
theorem dX0_came_24 : decode cX0_came 24 = .ok (.iload 7, 2) := dk_21 7 (dk_at dksX0_came_1 0 rfl rfl)
theorem dX0_came_26 : decode cX0_came 26 = .ok (.imul, 1) := dk_104 (dk_at dksX0_came_1 2 rfl rfl)
theorem dX0_came_27 : decode cX0_came 27 = .ok (.iadd, 1) := dk_96 (dk_at dksX0_came_1 3 rfl rfl)
theorem dX0_came_28 : decode cX0_came 28 = .ok (.invokestatic 475, 3) := dk_184 1 219 (dk_at dksX0_came_1 4 rfl rfl)
theorem dX0_came_31 : decode cX0_came 31 = .ok (.istore 8, 2) := dk_54 8 (dk_at dksX0_came_1 7 rfl rfl)
theorem dX0_came_33 : decode cX0_came 33 = .ok (.iload 6, 2) := dk_21 6 (dk_at dksX0_came_1 9 rfl rfl)
theorem dX0_came_35 : decode cX0_came 35 = .ok (.aload_n 0, 1) := dk_42 (dk_at dksX0_came_1 11 rfl rfl)
theorem dX0_came_36 : decode cX0_came 36 = .ok (.iload 8, 2) := dk_21 8 (dk_at dksX0_came_1 12 rfl rfl)
theorem dX0_came_38 : decode cX0_came 38 = .ok (.aload_n 1, 1) := dk_43 (dk_at dksX0_came_1 14 rfl rfl)
theorem dX0_came_39 : decode cX0_came 39 = .ok (.iload_n 2, 1) := dk_28 (dk_at dksX0_came_1 15 rfl rfl)
theorem dX0_came_40 : decode cX0_came 40 = .ok (.iload_n 3, 1) := dk_29 (dk_at dksX0_came_1 16 rfl rfl)
theorem dX0_came_41 : decode cX0_came 41 = .ok (.iconst 2, 1) := dk_5 (dk_at dksX0_came_1 17 rfl rfl)
theorem dX0_came_42 : decode cX0_came 42 = .ok (.iload 7, 2) := dk_21 7 (dk_at dksX0_came_1 18 rfl rfl)
theorem dX0_came_44 : decode cX0_came 44 = .ok (.imul, 1) := dk_104 (dk_at dksX0_came_1 20 rfl rfl)
theorem dX0_came_45 : decode cX0_came 45 = .ok (.iadd, 1) := dk_96 (dk_at dksX0_came_1 21 rfl rfl)
theorem dX0_came_46 : decode cX0_came 46 = .ok (.iconst 1, 1) := dk_4 (dk_at dksX0_came_1 22 rfl rfl)
theorem dX0_came_47 : decode cX0_came 47 = .ok (.iadd, 1) := dk_96 (dk_at dksX0_came_1 23 rfl rfl)
theorem dX0_came_48 : decode cX0_came 48 = .ok (.invokestatic 475, 3) := dk_184 1 219 (dk_at dksX0_came_2 0 rfl rfl)
theorem dX0_came_51 : decode cX0_came 51 = .ok (.invokevirtual 559, 3) := dk_182 2 47 (dk_at dksX0_came_2 3 rfl rfl)
theorem dX0_came_54 : decode cX0_came 54 = .ok (.ifCond .lt 7, 3) := dk_155 0 7 (dk_at dksX0_came_2 6 rfl rfl)
theorem dX0_came_57 : decode cX0_came 57 = .ok (.iconst 1, 1) := dk_4 (dk_at dksX0_came_2 9 rfl rfl)
theorem dX0_came_58 : decode cX0_came 58 = .ok (.goto 4, 3) := dk_167 0 4 (dk_at dksX0_came_2 10 rfl rfl)
theorem dX0_came_61 : decode cX0_came 61 = .ok (.iconst 0, 1) := dk_3 (dk_at dksX0_came_2 13 rfl rfl)
theorem dX0_came_62 : decode cX0_came 62 = .ok (.iadd, 1) := dk_96 (dk_at dksX0_came_2 14 rfl rfl)
theorem dX0_came_63 : decode cX0_came 63 = .ok (.istore 6, 2) := dk_54 6 (dk_at dksX0_came_2 15 rfl rfl)
theorem dX0_came_65 : decode cX0_came 65 = .ok (.iinc 7 1, 3) := dk_132 7 1 (dk_at dksX0_came_2 17 rfl rfl)
theorem dX0_came_68 : decode cX0_came 68 = .ok (.goto (-55), 3) := dk_167 255 201 (dk_at dksX0_came_2 20 rfl rfl)
theorem dX0_came_71 : decode cX0_came 71 = .ok (.iload 6, 2) := dk_21 6 (dk_at dksX0_came_3 0 rfl rfl)
theorem dX0_came_73 : decode cX0_came 73 = .ok (.ireturn, 1) := dk_172 (dk_at dksX0_came_3 2 rfl rfl)
abbrev cX0_taken : ByteArray := prog_1_method_105_code
def yX0_taken : MethodName := ⟨RX0, "taken", "(II)I"⟩
def dkwX0_taken_2 : List UInt8 := [172]
abbrev dktX0_taken_2 : List UInt8 := dkwX0_taken_2 ++ []
def dkwX0_taken_1 : List UInt8 := [180, 0, 47, 27, 50, 167, 0, 4, 1, 28, 184, 2, 56, 180, 0, 85, 172, 78, 16, 245, 172, 78, 16, 243]
abbrev dktX0_taken_1 : List UInt8 := dkwX0_taken_1 ++ dktX0_taken_2
def dkwX0_taken_0 : List UInt8 := [28, 133, 9, 20, 0, 43, 184, 0, 14, 154, 0, 6, 16, 254, 172, 42, 27, 182, 0, 79, 153, 0, 12, 42]
abbrev dktX0_taken_0 : List UInt8 := dkwX0_taken_0 ++ dktX0_taken_1
theorem dksX0_taken_0 : cX0_taken.data.toList.drop 0 = dktX0_taken_0 := by decide +kernel
theorem dksX0_taken_1 : cX0_taken.data.toList.drop 24 = dktX0_taken_1 := dk_seg dksX0_taken_0 24 rfl rfl
theorem dksX0_taken_2 : cX0_taken.data.toList.drop 48 = dktX0_taken_2 := dk_seg dksX0_taken_1 24 rfl rfl
theorem dX0_taken_0 : decode cX0_taken 0 = .ok (.iload_n 2, 1) := dk_28 (dk_at dksX0_taken_0 0 rfl rfl)
theorem dX0_taken_1 : decode cX0_taken 1 = .ok (.i2l, 1) := dk_133 (dk_at dksX0_taken_0 1 rfl rfl)
theorem dX0_taken_2 : decode cX0_taken 2 = .ok (.lconst 0, 1) := dk_9 (dk_at dksX0_taken_0 2 rfl rfl)
theorem dX0_taken_3 : decode cX0_taken 3 = .ok (.ldc2_w 43, 3) := dk_20 0 43 (dk_at dksX0_taken_0 3 rfl rfl)
theorem dX0_taken_6 : decode cX0_taken 6 = .ok (.invokestatic 14, 3) := dk_184 0 14 (dk_at dksX0_taken_0 6 rfl rfl)
theorem dX0_taken_9 : decode cX0_taken 9 = .ok (.ifCond .ne 6, 3) := dk_154 0 6 (dk_at dksX0_taken_0 9 rfl rfl)
theorem dX0_taken_12 : decode cX0_taken 12 = .ok (.bipush (-2), 2) := dk_16 254 (dk_at dksX0_taken_0 12 rfl rfl)
theorem dX0_taken_14 : decode cX0_taken 14 = .ok (.ireturn, 1) := dk_172 (dk_at dksX0_taken_0 14 rfl rfl)
theorem dX0_taken_15 : decode cX0_taken 15 = .ok (.aload_n 0, 1) := dk_42 (dk_at dksX0_taken_0 15 rfl rfl)
theorem dX0_taken_16 : decode cX0_taken 16 = .ok (.iload_n 1, 1) := dk_27 (dk_at dksX0_taken_0 16 rfl rfl)
theorem dX0_taken_17 : decode cX0_taken 17 = .ok (.invokevirtual 79, 3) := dk_182 0 79 (dk_at dksX0_taken_0 17 rfl rfl)
theorem dX0_taken_20 : decode cX0_taken 20 = .ok (.ifCond .eq 12, 3) := dk_153 0 12 (dk_at dksX0_taken_0 20 rfl rfl)
theorem dX0_taken_23 : decode cX0_taken 23 = .ok (.aload_n 0, 1) := dk_42 (dk_at dksX0_taken_0 23 rfl rfl)
theorem dX0_taken_24 : decode cX0_taken 24 = .ok (.getfield 47, 3) := dk_180 0 47 (dk_at dksX0_taken_1 0 rfl rfl)
theorem dX0_taken_27 : decode cX0_taken 27 = .ok (.iload_n 1, 1) := dk_27 (dk_at dksX0_taken_1 3 rfl rfl)
theorem dX0_taken_28 : decode cX0_taken 28 = .ok (.aaload, 1) := dk_50 (dk_at dksX0_taken_1 4 rfl rfl)
theorem dX0_taken_29 : decode cX0_taken 29 = .ok (.goto 4, 3) := dk_167 0 4 (dk_at dksX0_taken_1 5 rfl rfl)
theorem dX0_taken_32 : decode cX0_taken 32 = .ok (.aconst_null, 1) := dk_1 (dk_at dksX0_taken_1 8 rfl rfl)
theorem dX0_taken_33 : decode cX0_taken 33 = .ok (.iload_n 2, 1) := dk_28 (dk_at dksX0_taken_1 9 rfl rfl)
theorem dX0_taken_34 : decode cX0_taken 34 = .ok (.invokestatic 568, 3) := dk_184 2 56 (dk_at dksX0_taken_1 10 rfl rfl)
theorem dX0_taken_37 : decode cX0_taken 37 = .ok (.getfield 85, 3) := dk_180 0 85 (dk_at dksX0_taken_1 13 rfl rfl)
theorem dX0_taken_40 : decode cX0_taken 40 = .ok (.ireturn, 1) := dk_172 (dk_at dksX0_taken_1 16 rfl rfl)
theorem dX0_taken_41 : decode cX0_taken 41 = .ok (.astore_n 3, 1) := dk_78 (dk_at dksX0_taken_1 17 rfl rfl)
theorem dX0_taken_42 : decode cX0_taken 42 = .ok (.bipush (-11), 2) := dk_16 245 (dk_at dksX0_taken_1 18 rfl rfl)
theorem dX0_taken_44 : decode cX0_taken 44 = .ok (.ireturn, 1) := dk_172 (dk_at dksX0_taken_1 20 rfl rfl)
theorem dX0_taken_45 : decode cX0_taken 45 = .ok (.astore_n 3, 1) := dk_78 (dk_at dksX0_taken_1 21 rfl rfl)
theorem dX0_taken_46 : decode cX0_taken 46 = .ok (.bipush (-13), 2) := dk_16 243 (dk_at dksX0_taken_1 22 rfl rfl)
theorem dX0_taken_48 : decode cX0_taken 48 = .ok (.ireturn, 1) := dk_172 (dk_at dksX0_taken_2 0 rfl rfl)
abbrev cX0_as : ByteArray := prog_1_method_104_code
def yX0_as : MethodName := ⟨RX0, "as", "(LGleanersForGaps$Gleaner;I)LGleanersForGaps$Gleaner;"⟩
def dkwX0_as_3 : List UInt8 := [176, 42, 176]
abbrev dktX0_as_3 : List UInt8 := dkwX0_as_3 ++ []
def dkwX0_as_2 : List UInt8 := [42, 192, 0, 22, 176, 42, 192, 0, 28, 176, 42, 192, 0, 31, 176, 42, 192, 0, 34, 176, 42, 192, 0, 37]
abbrev dktX0_as_2 : List UInt8 := dkwX0_as_2 ++ dktX0_as_3
def dkwX0_as_1 : List UInt8 := [170, 0, 0, 0, 0, 0, 60, 0, 0, 0, 1, 0, 0, 0, 5, 0, 0, 0, 35, 0, 0, 0, 40, 0, 0, 0, 45, 0, 0, 0, 50, 0, 0, 0, 55]
abbrev dktX0_as_1 : List UInt8 := dkwX0_as_1 ++ dktX0_as_2
def dkwX0_as_0 : List UInt8 := [27]
abbrev dktX0_as_0 : List UInt8 := dkwX0_as_0 ++ dktX0_as_1
theorem dksX0_as_0 : cX0_as.data.toList.drop 0 = dktX0_as_0 := by decide +kernel
theorem dksX0_as_1 : cX0_as.data.toList.drop 1 = dktX0_as_1 := dk_seg dksX0_as_0 1 rfl rfl
theorem dksX0_as_2 : cX0_as.data.toList.drop 36 = dktX0_as_2 := dk_seg dksX0_as_1 35 rfl rfl
theorem dksX0_as_3 : cX0_as.data.toList.drop 60 = dktX0_as_3 := dk_seg dksX0_as_2 24 rfl rfl
theorem dX0_as_0 : decode cX0_as 0 = .ok (.iload_n 1, 1) := dk_27 (dk_at dksX0_as_0 0 rfl rfl)
theorem dX0_as_1 : decode cX0_as 1 = .ok (.tableswitch 60 1 5 #[35, 40, 45, 50, 55], 35) := by decide +kernel
theorem dX0_as_36 : decode cX0_as 36 = .ok (.aload_n 0, 1) := dk_42 (dk_at dksX0_as_2 0 rfl rfl)
theorem dX0_as_37 : decode cX0_as 37 = .ok (.checkcast 22, 3) := dk_192 0 22 (dk_at dksX0_as_2 1 rfl rfl)
theorem dX0_as_40 : decode cX0_as 40 = .ok (.areturn, 1) := dk_176 (dk_at dksX0_as_2 4 rfl rfl)
theorem dX0_as_41 : decode cX0_as 41 = .ok (.aload_n 0, 1) := dk_42 (dk_at dksX0_as_2 5 rfl rfl)
theorem dX0_as_42 : decode cX0_as 42 = .ok (.checkcast 28, 3) := dk_192 0 28 (dk_at dksX0_as_2 6 rfl rfl)
theorem dX0_as_45 : decode cX0_as 45 = .ok (.areturn, 1) := dk_176 (dk_at dksX0_as_2 9 rfl rfl)
theorem dX0_as_46 : decode cX0_as 46 = .ok (.aload_n 0, 1) := dk_42 (dk_at dksX0_as_2 10 rfl rfl)
theorem dX0_as_47 : decode cX0_as 47 = .ok (.checkcast 31, 3) := dk_192 0 31 (dk_at dksX0_as_2 11 rfl rfl)
theorem dX0_as_50 : decode cX0_as 50 = .ok (.areturn, 1) := dk_176 (dk_at dksX0_as_2 14 rfl rfl)
theorem dX0_as_51 : decode cX0_as 51 = .ok (.aload_n 0, 1) := dk_42 (dk_at dksX0_as_2 15 rfl rfl)
theorem dX0_as_52 : decode cX0_as 52 = .ok (.checkcast 34, 3) := dk_192 0 34 (dk_at dksX0_as_2 16 rfl rfl)
theorem dX0_as_55 : decode cX0_as 55 = .ok (.areturn, 1) := dk_176 (dk_at dksX0_as_2 19 rfl rfl)
theorem dX0_as_56 : decode cX0_as 56 = .ok (.aload_n 0, 1) := dk_42 (dk_at dksX0_as_2 20 rfl rfl)
theorem dX0_as_57 : decode cX0_as 57 = .ok (.checkcast 37, 3) := dk_192 0 37 (dk_at dksX0_as_2 21 rfl rfl)
theorem dX0_as_60 : decode cX0_as 60 = .ok (.areturn, 1) := dk_176 (dk_at dksX0_as_3 0 rfl rfl)
theorem dX0_as_61 : decode cX0_as 61 = .ok (.aload_n 0, 1) := dk_42 (dk_at dksX0_as_3 1 rfl rfl)
theorem dX0_as_62 : decode cX0_as 62 = .ok (.areturn, 1) := dk_176 (dk_at dksX0_as_3 2 rfl rfl)
theorem q103 : (Jvm.Cond.initialized "GleanersForGaps") ∈ lw_all := lw_g (lw_at lw_m1 1 rfl) rfl
theorem q135 : (Jvm.Cond.instanceMethod ({ cls := "GleanersForGaps", name := "gleaner", desc := "(II)I" } : Jvm.MethodName)) ∈ lw_all := lw_g (lw_at lw_m1 33 rfl) rfl
theorem q136 : (Jvm.Cond.selects "GleanersForGaps" ({ cls := "GleanersForGaps", name := "gleaner", desc := "(II)I" } : Jvm.MethodName) ({ cls := "GleanersForGaps", name := "gleaner", desc := "(II)I" } : Jvm.MethodName)) ∈ lw_all := lw_g (lw_at lw_m1 34 rfl) rfl
theorem q137 : (Jvm.Cond.code ({ cls := "GleanersForGaps", name := "gleaner", desc := "(II)I" } : Jvm.MethodName) prog_1_method_7_code (3 : Nat) (Option.some Jvm.ClassFile.FieldType.int)) ∈ lw_all := lw_g (lw_at lw_m1 35 rfl) rfl
theorem q138 : (Jvm.Cond.constantLong "GleanersForGaps" (43 : Nat) (5 : Int64)) ∈ lw_all := lw_g (lw_at lw_m1 36 rfl) rfl
theorem q139 : (Jvm.Cond.methodLink "GleanersForGaps" (14 : Nat) ({ cls := "GleanersForGaps", name := "in", desc := "(JJJ)Z" } : Jvm.MethodName)) ∈ lw_all := lw_g (lw_at lw_m1 37 rfl) rfl
theorem q140 : (Jvm.Cond.static ({ cls := "GleanersForGaps", name := "in", desc := "(JJJ)Z" } : Jvm.MethodName)) ∈ lw_all := lw_g (lw_at lw_m1 38 rfl) rfl
theorem q141 : (Jvm.Cond.code ({ cls := "GleanersForGaps", name := "in", desc := "(JJJ)Z" } : Jvm.MethodName) prog_1_method_1_code (6 : Nat) (Option.some Jvm.ClassFile.FieldType.boolean)) ∈ lw_all := lw_g (lw_at lw_m1 39 rfl) rfl
theorem q142 : (Jvm.Cond.constantLong "GleanersForGaps" (45 : Nat) (9 : Int64)) ∈ lw_all := lw_g (lw_at lw_m1 40 rfl) rfl
theorem q143 : (Jvm.Cond.methodLink "GleanersForGaps" (51 : Nat) ({ cls := "GleanersForGaps", name := "made", desc := "(II)LGleanersForGaps$Gleaner;" } : Jvm.MethodName)) ∈ lw_all := lw_g (lw_at lw_m1 41 rfl) rfl
theorem q144 : (Jvm.Cond.static ({ cls := "GleanersForGaps", name := "made", desc := "(II)LGleanersForGaps$Gleaner;" } : Jvm.MethodName)) ∈ lw_all := lw_g (lw_at lw_m1 42 rfl) rfl
theorem q145 : (Jvm.Cond.code ({ cls := "GleanersForGaps", name := "made", desc := "(II)LGleanersForGaps$Gleaner;" } : Jvm.MethodName) prog_1_method_6_code (2 : Nat) (Option.some (Jvm.ClassFile.FieldType.object "GleanersForGaps$Gleaner"))) ∈ lw_all := lw_g (lw_at lw_m1 43 rfl) rfl
theorem q146 : (Jvm.Cond.classLink "GleanersForGaps" (22 : Nat) "GleanersForGaps$Widow") ∈ lw_all := lw_g (lw_at lw_m1 44 rfl) rfl
theorem q148 : (Jvm.Cond.methodLink "GleanersForGaps" (24 : Nat) ({ cls := "GleanersForGaps$Widow", name := "<init>", desc := "(I)V" } : Jvm.MethodName)) ∈ lw_all := lw_g (lw_at lw_m1 46 rfl) rfl
theorem q162 : (Jvm.Cond.fieldLink "GleanersForGaps" (85 : Nat) "GleanersForGaps$Gleaner" "number" "I") ∈ lw_all := lw_g (lw_at lw_m1 60 rfl) rfl
theorem q168 : (Jvm.Cond.fieldLink "GleanersForGaps" (88 : Nat) "GleanersForGaps$Gleaner" "apron" "I") ∈ lw_all := lw_g (lw_at lw_m1 66 rfl) rfl
theorem q174 : (Jvm.Cond.classLink "GleanersForGaps" (28 : Nat) "GleanersForGaps$Rich") ∈ lw_all := lw_g (lw_at lw_m1 72 rfl) rfl
theorem q176 : (Jvm.Cond.methodLink "GleanersForGaps" (30 : Nat) ({ cls := "GleanersForGaps$Rich", name := "<init>", desc := "(I)V" } : Jvm.MethodName)) ∈ lw_all := lw_g (lw_at lw_m1 74 rfl) rfl
theorem q183 : (Jvm.Cond.classLink "GleanersForGaps" (31 : Nat) "GleanersForGaps$Lark") ∈ lw_all := lw_g (lw_at lw_m1 81 rfl) rfl
theorem q185 : (Jvm.Cond.methodLink "GleanersForGaps" (33 : Nat) ({ cls := "GleanersForGaps$Lark", name := "<init>", desc := "(I)V" } : Jvm.MethodName)) ∈ lw_all := lw_g (lw_at lw_m1 83 rfl) rfl
theorem q192 : (Jvm.Cond.classLink "GleanersForGaps" (34 : Nat) "GleanersForGaps$Old") ∈ lw_all := lw_g (lw_at lw_m1 90 rfl) rfl
theorem q194 : (Jvm.Cond.methodLink "GleanersForGaps" (36 : Nat) ({ cls := "GleanersForGaps$Old", name := "<init>", desc := "(I)V" } : Jvm.MethodName)) ∈ lw_all := lw_g (lw_at lw_m1 92 rfl) rfl
theorem q201 : (Jvm.Cond.classLink "GleanersForGaps" (37 : Nat) "GleanersForGaps$Child") ∈ lw_all := lw_g (lw_at lw_m1 99 rfl) rfl
theorem q203 : (Jvm.Cond.methodLink "GleanersForGaps" (39 : Nat) ({ cls := "GleanersForGaps$Child", name := "<init>", desc := "(I)V" } : Jvm.MethodName)) ∈ lw_all := lw_g (lw_at lw_m1 101 rfl) rfl
theorem q210 : (Jvm.Cond.classLink "GleanersForGaps" (40 : Nat) "GleanersForGaps$Gleaner") ∈ lw_all := lw_g (lw_at lw_m1 108 rfl) rfl
theorem q212 : (Jvm.Cond.methodLink "GleanersForGaps" (42 : Nat) ({ cls := "GleanersForGaps$Gleaner", name := "<init>", desc := "(I)V" } : Jvm.MethodName)) ∈ lw_all := lw_g (lw_at lw_m1 110 rfl) rfl
theorem q217 : (Jvm.Cond.instanceMethod ({ cls := "GleanersForGaps", name := "lay", desc := "(III)I" } : Jvm.MethodName)) ∈ lw_all := lw_g (lw_at lw_m1 115 rfl) rfl
theorem q218 : (Jvm.Cond.selects "GleanersForGaps" ({ cls := "GleanersForGaps", name := "lay", desc := "(III)I" } : Jvm.MethodName) ({ cls := "GleanersForGaps", name := "lay", desc := "(III)I" } : Jvm.MethodName)) ∈ lw_all := lw_g (lw_at lw_m1 116 rfl) rfl
theorem q219 : (Jvm.Cond.code ({ cls := "GleanersForGaps", name := "lay", desc := "(III)I" } : Jvm.MethodName) prog_1_method_8_code (4 : Nat) (Option.some Jvm.ClassFile.FieldType.int)) ∈ lw_all := lw_g (lw_at lw_m1 117 rfl) rfl
theorem q220 : (Jvm.Cond.methodLink "GleanersForGaps" (55 : Nat) ({ cls := "GleanersForGaps", name := "isRow", desc := "(I)Z" } : Jvm.MethodName)) ∈ lw_all := lw_g (lw_at lw_m1 118 rfl) rfl
theorem q221 : (Jvm.Cond.static ({ cls := "GleanersForGaps", name := "isRow", desc := "(I)Z" } : Jvm.MethodName)) ∈ lw_all := lw_g (lw_at lw_m1 119 rfl) rfl
theorem q222 : (Jvm.Cond.code ({ cls := "GleanersForGaps", name := "isRow", desc := "(I)Z" } : Jvm.MethodName) prog_1_method_4_code (1 : Nat) (Option.some Jvm.ClassFile.FieldType.boolean)) ∈ lw_all := lw_g (lw_at lw_m1 120 rfl) rfl
theorem q223 : (Jvm.Cond.constantLong "GleanersForGaps" (12 : Nat) (3 : Int64)) ∈ lw_all := lw_g (lw_at lw_m1 121 rfl) rfl
theorem q224 : (Jvm.Cond.constantLong "GleanersForGaps" (59 : Nat) (24 : Int64)) ∈ lw_all := lw_g (lw_at lw_m1 122 rfl) rfl
theorem q225 : (Jvm.Cond.methodLink "GleanersForGaps" (68 : Nat) ({ cls := "GleanersForGaps", name := "gapsOf", desc := "(I)I" } : Jvm.MethodName)) ∈ lw_all := lw_g (lw_at lw_m1 123 rfl) rfl
theorem q226 : (Jvm.Cond.privateMethod ({ cls := "GleanersForGaps", name := "gapsOf", desc := "(I)I" } : Jvm.MethodName)) ∈ lw_tbl := lw_at lw_m1 124 rfl
theorem q227 : (Jvm.Cond.instanceMethod ({ cls := "GleanersForGaps", name := "gapsOf", desc := "(I)I" } : Jvm.MethodName)) ∈ lw_all := lw_g (lw_at lw_m1 125 rfl) rfl
theorem q228 : (Jvm.Cond.instantiable "GleanersForGaps" (40 : Nat)) ∈ lw_all := lw_g (lw_at lw_m1 126 rfl) rfl
theorem q229 : (Jvm.Cond.code ({ cls := "GleanersForGaps", name := "gapsOf", desc := "(I)I" } : Jvm.MethodName) prog_1_method_9_code (2 : Nat) (Option.some Jvm.ClassFile.FieldType.int)) ∈ lw_all := lw_g (lw_at lw_m1 127 rfl) rfl
theorem q230 : (Jvm.Cond.methodLink "GleanersForGaps" (72 : Nat) ({ cls := "java/lang/Integer", name := "bitCount", desc := "(I)I" } : Jvm.MethodName)) ∈ lw_all := lw_g (lw_at lw_m1 128 rfl) rfl
theorem q237 : (Jvm.Cond.instanceMethod ({ cls := "GleanersForGaps", name := "set", desc := "(III)I" } : Jvm.MethodName)) ∈ lw_all := lw_g (lw_at lw_m1 135 rfl) rfl
theorem q238 : (Jvm.Cond.selects "GleanersForGaps" ({ cls := "GleanersForGaps", name := "set", desc := "(III)I" } : Jvm.MethodName) ({ cls := "GleanersForGaps", name := "set", desc := "(III)I" } : Jvm.MethodName)) ∈ lw_all := lw_g (lw_at lw_m1 136 rfl) rfl
theorem q239 : (Jvm.Cond.code ({ cls := "GleanersForGaps", name := "set", desc := "(III)I" } : Jvm.MethodName) prog_1_method_12_code (5 : Nat) (Option.some Jvm.ClassFile.FieldType.int)) ∈ lw_all := lw_g (lw_at lw_m1 137 rfl) rfl
theorem q240 : (Jvm.Cond.methodLink "GleanersForGaps" (91 : Nat) ({ cls := "GleanersForGaps", name := "isSo", desc := "(III)Z" } : Jvm.MethodName)) ∈ lw_all := lw_g (lw_at lw_m1 138 rfl) rfl
theorem q241 : (Jvm.Cond.privateMethod ({ cls := "GleanersForGaps", name := "isSo", desc := "(III)Z" } : Jvm.MethodName)) ∈ lw_tbl := lw_at lw_m1 139 rfl
theorem q242 : (Jvm.Cond.instanceMethod ({ cls := "GleanersForGaps", name := "isSo", desc := "(III)Z" } : Jvm.MethodName)) ∈ lw_all := lw_g (lw_at lw_m1 140 rfl) rfl
theorem q243 : (Jvm.Cond.code ({ cls := "GleanersForGaps", name := "isSo", desc := "(III)Z" } : Jvm.MethodName) prog_1_method_10_code (4 : Nat) (Option.some Jvm.ClassFile.FieldType.boolean)) ∈ lw_all := lw_g (lw_at lw_m1 141 rfl) rfl
theorem q244 : (Jvm.Cond.constantLong "GleanersForGaps" (77 : Nat) (999 : Int64)) ∈ lw_all := lw_g (lw_at lw_m1 142 rfl) rfl
theorem q245 : (Jvm.Cond.methodLink "GleanersForGaps" (79 : Nat) ({ cls := "GleanersForGaps", name := "isOne", desc := "(I)Z" } : Jvm.MethodName)) ∈ lw_all := lw_g (lw_at lw_m1 143 rfl) rfl
theorem q246 : (Jvm.Cond.privateMethod ({ cls := "GleanersForGaps", name := "isOne", desc := "(I)Z" } : Jvm.MethodName)) ∈ lw_tbl := lw_at lw_m1 144 rfl
theorem q247 : (Jvm.Cond.instanceMethod ({ cls := "GleanersForGaps", name := "isOne", desc := "(I)Z" } : Jvm.MethodName)) ∈ lw_all := lw_g (lw_at lw_m1 145 rfl) rfl
theorem q248 : (Jvm.Cond.code ({ cls := "GleanersForGaps", name := "isOne", desc := "(I)Z" } : Jvm.MethodName) prog_1_method_5_code (2 : Nat) (Option.some Jvm.ClassFile.FieldType.boolean)) ∈ lw_all := lw_g (lw_at lw_m1 146 rfl) rfl
theorem q249 : (Jvm.Cond.methodLink "GleanersForGaps" (95 : Nat) ({ cls := "GleanersForGaps", name := "told", desc := "(II)I" } : Jvm.MethodName)) ∈ lw_all := lw_g (lw_at lw_m1 147 rfl) rfl
theorem q250 : (Jvm.Cond.instanceMethod ({ cls := "GleanersForGaps", name := "told", desc := "(II)I" } : Jvm.MethodName)) ∈ lw_all := lw_g (lw_at lw_m1 148 rfl) rfl
theorem q251 : (Jvm.Cond.selects "GleanersForGaps" ({ cls := "GleanersForGaps", name := "told", desc := "(II)I" } : Jvm.MethodName) ({ cls := "GleanersForGaps", name := "told", desc := "(II)I" } : Jvm.MethodName)) ∈ lw_all := lw_g (lw_at lw_m1 149 rfl) rfl
theorem q252 : (Jvm.Cond.code ({ cls := "GleanersForGaps", name := "told", desc := "(II)I" } : Jvm.MethodName) prog_1_method_15_code (3 : Nat) (Option.some Jvm.ClassFile.FieldType.int)) ∈ lw_all := lw_g (lw_at lw_m1 150 rfl) rfl
theorem q253 : (Jvm.Cond.constantLong "GleanersForGaps" (118 : Nat) (10 : Int64)) ∈ lw_all := lw_g (lw_at lw_m1 151 rfl) rfl
theorem q254 : (Jvm.Cond.methodLink "GleanersForGaps" (120 : Nat) ({ cls := "GleanersForGaps", name := "toldRow", desc := "(II)I" } : Jvm.MethodName)) ∈ lw_all := lw_g (lw_at lw_m1 152 rfl) rfl
theorem q255 : (Jvm.Cond.privateMethod ({ cls := "GleanersForGaps", name := "toldRow", desc := "(II)I" } : Jvm.MethodName)) ∈ lw_tbl := lw_at lw_m1 153 rfl
theorem q256 : (Jvm.Cond.instanceMethod ({ cls := "GleanersForGaps", name := "toldRow", desc := "(II)I" } : Jvm.MethodName)) ∈ lw_all := lw_g (lw_at lw_m1 154 rfl) rfl
theorem q257 : (Jvm.Cond.code ({ cls := "GleanersForGaps", name := "toldRow", desc := "(II)I" } : Jvm.MethodName) prog_1_method_14_code (3 : Nat) (Option.some Jvm.ClassFile.FieldType.int)) ∈ lw_all := lw_g (lw_at lw_m1 155 rfl) rfl
theorem q258 : (Jvm.Cond.methodLink "GleanersForGaps" (109 : Nat) ({ cls := "GleanersForGaps", name := "runsOf", desc := "(I)I" } : Jvm.MethodName)) ∈ lw_all := lw_g (lw_at lw_m1 156 rfl) rfl
theorem q259 : (Jvm.Cond.privateMethod ({ cls := "GleanersForGaps", name := "runsOf", desc := "(I)I" } : Jvm.MethodName)) ∈ lw_tbl := lw_at lw_m1 157 rfl
theorem q260 : (Jvm.Cond.instanceMethod ({ cls := "GleanersForGaps", name := "runsOf", desc := "(I)I" } : Jvm.MethodName)) ∈ lw_all := lw_g (lw_at lw_m1 158 rfl) rfl
theorem q261 : (Jvm.Cond.code ({ cls := "GleanersForGaps", name := "runsOf", desc := "(I)I" } : Jvm.MethodName) prog_1_method_17_code (2 : Nat) (Option.some Jvm.ClassFile.FieldType.int)) ∈ lw_all := lw_g (lw_at lw_m1 159 rfl) rfl
theorem q262 : (Jvm.Cond.methodLink "GleanersForGaps" (135 : Nat) ({ cls := "GleanersForGaps", name := "tellsRuns", desc := "(I)I" } : Jvm.MethodName)) ∈ lw_all := lw_g (lw_at lw_m1 160 rfl) rfl
theorem q263 : (Jvm.Cond.privateMethod ({ cls := "GleanersForGaps", name := "tellsRuns", desc := "(I)I" } : Jvm.MethodName)) ∈ lw_tbl := lw_at lw_m1 161 rfl
theorem q264 : (Jvm.Cond.instanceMethod ({ cls := "GleanersForGaps", name := "tellsRuns", desc := "(I)I" } : Jvm.MethodName)) ∈ lw_all := lw_g (lw_at lw_m1 162 rfl) rfl
theorem q265 : (Jvm.Cond.code ({ cls := "GleanersForGaps", name := "tellsRuns", desc := "(I)I" } : Jvm.MethodName) prog_1_method_16_code (6 : Nat) (Option.some Jvm.ClassFile.FieldType.int)) ∈ lw_all := lw_g (lw_at lw_m1 163 rfl) rfl
theorem q266 : (Jvm.Cond.methodLink "GleanersForGaps" (128 : Nat) ({ cls := "GleanersForGaps", name := "isIn", desc := "(II)Z" } : Jvm.MethodName)) ∈ lw_all := lw_g (lw_at lw_m1 164 rfl) rfl
theorem q267 : (Jvm.Cond.static ({ cls := "GleanersForGaps", name := "isIn", desc := "(II)Z" } : Jvm.MethodName)) ∈ lw_all := lw_g (lw_at lw_m1 165 rfl) rfl
theorem q268 : (Jvm.Cond.code ({ cls := "GleanersForGaps", name := "isIn", desc := "(II)Z" } : Jvm.MethodName) prog_1_method_3_code (2 : Nat) (Option.some Jvm.ClassFile.FieldType.boolean)) ∈ lw_all := lw_g (lw_at lw_m1 166 rfl) rfl
theorem q269 : (Jvm.Cond.methodLink "GleanersForGaps" (112 : Nat) ({ cls := "GleanersForGaps", name := "greatest", desc := "(I)I" } : Jvm.MethodName)) ∈ lw_all := lw_g (lw_at lw_m1 167 rfl) rfl
theorem q270 : (Jvm.Cond.privateMethod ({ cls := "GleanersForGaps", name := "greatest", desc := "(I)I" } : Jvm.MethodName)) ∈ lw_tbl := lw_at lw_m1 168 rfl
theorem q271 : (Jvm.Cond.instanceMethod ({ cls := "GleanersForGaps", name := "greatest", desc := "(I)I" } : Jvm.MethodName)) ∈ lw_all := lw_g (lw_at lw_m1 169 rfl) rfl
theorem q272 : (Jvm.Cond.code ({ cls := "GleanersForGaps", name := "greatest", desc := "(I)I" } : Jvm.MethodName) prog_1_method_18_code (5 : Nat) (Option.some Jvm.ClassFile.FieldType.int)) ∈ lw_all := lw_g (lw_at lw_m1 170 rfl) rfl
theorem q273 : (Jvm.Cond.methodLink "GleanersForGaps" (7 : Nat) ({ cls := "java/lang/Math", name := "max", desc := "(II)I" } : Jvm.MethodName)) ∈ lw_all := lw_g (lw_at lw_m1 171 rfl) rfl
theorem q276 : (Jvm.Cond.methodLink "GleanersForGaps" (115 : Nat) ({ cls := "GleanersForGaps", name := "shakesOf", desc := "(I)I" } : Jvm.MethodName)) ∈ lw_all := lw_g (lw_at lw_m1 174 rfl) rfl
theorem q277 : (Jvm.Cond.privateMethod ({ cls := "GleanersForGaps", name := "shakesOf", desc := "(I)I" } : Jvm.MethodName)) ∈ lw_tbl := lw_at lw_m1 175 rfl
theorem q278 : (Jvm.Cond.instanceMethod ({ cls := "GleanersForGaps", name := "shakesOf", desc := "(I)I" } : Jvm.MethodName)) ∈ lw_all := lw_g (lw_at lw_m1 176 rfl) rfl
theorem q279 : (Jvm.Cond.code ({ cls := "GleanersForGaps", name := "shakesOf", desc := "(I)I" } : Jvm.MethodName) prog_1_method_48_code (2 : Nat) (Option.some Jvm.ClassFile.FieldType.int)) ∈ lw_all := lw_g (lw_at lw_m1 177 rfl) rfl
theorem q280 : (Jvm.Cond.methodLink "GleanersForGaps" (376 : Nat) ({ cls := "GleanersForGaps", name := "looksAt", desc := "(I)V" } : Jvm.MethodName)) ∈ lw_all := lw_g (lw_at lw_m1 178 rfl) rfl
theorem q281 : (Jvm.Cond.privateMethod ({ cls := "GleanersForGaps", name := "looksAt", desc := "(I)V" } : Jvm.MethodName)) ∈ lw_tbl := lw_at lw_m1 179 rfl
theorem q282 : (Jvm.Cond.instanceMethod ({ cls := "GleanersForGaps", name := "looksAt", desc := "(I)V" } : Jvm.MethodName)) ∈ lw_all := lw_g (lw_at lw_m1 180 rfl) rfl
theorem q283 : (Jvm.Cond.code ({ cls := "GleanersForGaps", name := "looksAt", desc := "(I)V" } : Jvm.MethodName) prog_1_method_45_code (2 : Nat) (Option.none : Option Jvm.ClassFile.FieldType)) ∈ lw_all := lw_g (lw_at lw_m1 181 rfl) rfl
theorem q284 : (Jvm.Cond.methodLink "GleanersForGaps" (379 : Nat) ({ cls := "GleanersForGaps", name := "says", desc := "(IIII)I" } : Jvm.MethodName)) ∈ lw_all := lw_g (lw_at lw_m1 182 rfl) rfl
theorem q285 : (Jvm.Cond.privateMethod ({ cls := "GleanersForGaps", name := "says", desc := "(IIII)I" } : Jvm.MethodName)) ∈ lw_tbl := lw_at lw_m1 183 rfl
theorem q286 : (Jvm.Cond.instanceMethod ({ cls := "GleanersForGaps", name := "says", desc := "(IIII)I" } : Jvm.MethodName)) ∈ lw_all := lw_g (lw_at lw_m1 184 rfl) rfl
theorem q287 : (Jvm.Cond.code ({ cls := "GleanersForGaps", name := "says", desc := "(IIII)I" } : Jvm.MethodName) prog_1_method_44_code (5 : Nat) (Option.some Jvm.ClassFile.FieldType.int)) ∈ lw_all := lw_g (lw_at lw_m1 185 rfl) rfl
theorem q288 : (Jvm.Cond.methodLink "GleanersForGaps" (367 : Nat) ({ cls := "GleanersForGaps$Node", name := "worth", desc := "()I" } : Jvm.MethodName)) ∈ lw_all := lw_g (lw_at lw_m1 186 rfl) rfl
theorem q305 : (Jvm.Cond.methodLink "GleanersForGaps" (383 : Nat) ({ cls := "GleanersForGaps", name := "held", desc := "(III)I" } : Jvm.MethodName)) ∈ lw_all := lw_g (lw_at lw_m1 203 rfl) rfl
theorem q306 : (Jvm.Cond.static ({ cls := "GleanersForGaps", name := "held", desc := "(III)I" } : Jvm.MethodName)) ∈ lw_all := lw_g (lw_at lw_m1 204 rfl) rfl
theorem q307 : (Jvm.Cond.code ({ cls := "GleanersForGaps", name := "held", desc := "(III)I" } : Jvm.MethodName) prog_1_method_2_code (3 : Nat) (Option.some Jvm.ClassFile.FieldType.int)) ∈ lw_all := lw_g (lw_at lw_m1 205 rfl) rfl
theorem q308 : (Jvm.Cond.methodLink "GleanersForGaps" (1 : Nat) ({ cls := "java/lang/Math", name := "min", desc := "(II)I" } : Jvm.MethodName)) ∈ lw_all := lw_g (lw_at lw_m1 206 rfl) rfl
theorem q311 : (Jvm.Cond.constantLong "GleanersForGaps" (123 : Nat) (4 : Int64)) ∈ lw_all := lw_g (lw_at lw_m1 209 rfl) rfl
theorem q312 : (Jvm.Cond.methodLink "GleanersForGaps" (125 : Nat) ({ cls := "GleanersForGaps", name := "toldOf", desc := "(II)I" } : Jvm.MethodName)) ∈ lw_all := lw_g (lw_at lw_m1 210 rfl) rfl
theorem q313 : (Jvm.Cond.privateMethod ({ cls := "GleanersForGaps", name := "toldOf", desc := "(II)I" } : Jvm.MethodName)) ∈ lw_tbl := lw_at lw_m1 211 rfl
theorem q314 : (Jvm.Cond.instanceMethod ({ cls := "GleanersForGaps", name := "toldOf", desc := "(II)I" } : Jvm.MethodName)) ∈ lw_all := lw_g (lw_at lw_m1 212 rfl) rfl
theorem q315 : (Jvm.Cond.code ({ cls := "GleanersForGaps", name := "toldOf", desc := "(II)I" } : Jvm.MethodName) prog_1_method_13_code (3 : Nat) (Option.some Jvm.ClassFile.FieldType.int)) ∈ lw_all := lw_g (lw_at lw_m1 213 rfl) rfl
theorem q316 : (Jvm.Cond.methodLink "GleanersForGaps" (102 : Nat) ({ cls := "GleanersForGaps$Gleaner", name := "kind", desc := "()I" } : Jvm.MethodName)) ∈ lw_all := lw_g (lw_at lw_m1 214 rfl) rfl
theorem q341 : (Jvm.Cond.methodLink "GleanersForGaps" (106 : Nat) ({ cls := "GleanersForGaps", name := "keepsOf", desc := "(I)I" } : Jvm.MethodName)) ∈ lw_all := lw_g (lw_at lw_m1 239 rfl) rfl
theorem q342 : (Jvm.Cond.privateMethod ({ cls := "GleanersForGaps", name := "keepsOf", desc := "(I)I" } : Jvm.MethodName)) ∈ lw_tbl := lw_at lw_m2 0 rfl
theorem q343 : (Jvm.Cond.instanceMethod ({ cls := "GleanersForGaps", name := "keepsOf", desc := "(I)I" } : Jvm.MethodName)) ∈ lw_all := lw_g (lw_at lw_m2 1 rfl) rfl
theorem q344 : (Jvm.Cond.code ({ cls := "GleanersForGaps", name := "keepsOf", desc := "(I)I" } : Jvm.MethodName) prog_1_method_47_code (2 : Nat) (Option.some Jvm.ClassFile.FieldType.int)) ∈ lw_all := lw_g (lw_at lw_m2 2 rfl) rfl
theorem q345 : (Jvm.Cond.methodLink "GleanersForGaps" (390 : Nat) ({ cls := "GleanersForGaps$Gleaner", name := "keeps", desc := "(I)I" } : Jvm.MethodName)) ∈ lw_all := lw_g (lw_at lw_m2 3 rfl) rfl
theorem q367 : (Jvm.Cond.methodLink "GleanersForGaps" (98 : Nat) ({ cls := "GleanersForGaps", name := "becomes", desc := "(III)V" } : Jvm.MethodName)) ∈ lw_all := lw_g (lw_at lw_m2 25 rfl) rfl
theorem q368 : (Jvm.Cond.privateMethod ({ cls := "GleanersForGaps", name := "becomes", desc := "(III)V" } : Jvm.MethodName)) ∈ lw_tbl := lw_at lw_m2 26 rfl
theorem q369 : (Jvm.Cond.instanceMethod ({ cls := "GleanersForGaps", name := "becomes", desc := "(III)V" } : Jvm.MethodName)) ∈ lw_all := lw_g (lw_at lw_m2 27 rfl) rfl
theorem q370 : (Jvm.Cond.code ({ cls := "GleanersForGaps", name := "becomes", desc := "(III)V" } : Jvm.MethodName) prog_1_method_11_code (4 : Nat) (Option.none : Option Jvm.ClassFile.FieldType)) ∈ lw_all := lw_g (lw_at lw_m2 28 rfl) rfl
theorem q373 : (Jvm.Cond.instanceMethod ({ cls := "GleanersForGaps", name := "run", desc := "(II)I" } : Jvm.MethodName)) ∈ lw_all := lw_g (lw_at lw_m2 31 rfl) rfl
theorem q374 : (Jvm.Cond.selects "GleanersForGaps" ({ cls := "GleanersForGaps", name := "run", desc := "(II)I" } : Jvm.MethodName) ({ cls := "GleanersForGaps", name := "run", desc := "(II)I" } : Jvm.MethodName)) ∈ lw_all := lw_g (lw_at lw_m2 32 rfl) rfl
theorem q375 : (Jvm.Cond.code ({ cls := "GleanersForGaps", name := "run", desc := "(II)I" } : Jvm.MethodName) prog_1_method_19_code (3 : Nat) (Option.some Jvm.ClassFile.FieldType.int)) ∈ lw_all := lw_g (lw_at lw_m2 33 rfl) rfl
theorem q377 : (Jvm.Cond.instanceMethod ({ cls := "GleanersForGaps", name := "feed", desc := "(I)I" } : Jvm.MethodName)) ∈ lw_all := lw_g (lw_at lw_m2 35 rfl) rfl
theorem q378 : (Jvm.Cond.selects "GleanersForGaps" ({ cls := "GleanersForGaps", name := "feed", desc := "(I)I" } : Jvm.MethodName) ({ cls := "GleanersForGaps", name := "feed", desc := "(I)I" } : Jvm.MethodName)) ∈ lw_all := lw_g (lw_at lw_m2 36 rfl) rfl
theorem q379 : (Jvm.Cond.code ({ cls := "GleanersForGaps", name := "feed", desc := "(I)I" } : Jvm.MethodName) prog_1_method_39_code (2 : Nat) (Option.some Jvm.ClassFile.FieldType.int)) ∈ lw_all := lw_g (lw_at lw_m2 37 rfl) rfl
theorem q380 : (Jvm.Cond.constantLong "GleanersForGaps" (282 : Nat) (255 : Int64)) ∈ lw_all := lw_g (lw_at lw_m2 38 rfl) rfl
theorem q382 : (Jvm.Cond.instanceMethod ({ cls := "GleanersForGaps", name := "text", desc := "()I" } : Jvm.MethodName)) ∈ lw_all := lw_g (lw_at lw_m2 40 rfl) rfl
theorem q383 : (Jvm.Cond.selects "GleanersForGaps" ({ cls := "GleanersForGaps", name := "text", desc := "()I" } : Jvm.MethodName) ({ cls := "GleanersForGaps", name := "text", desc := "()I" } : Jvm.MethodName)) ∈ lw_all := lw_g (lw_at lw_m2 41 rfl) rfl
theorem q384 : (Jvm.Cond.code ({ cls := "GleanersForGaps", name := "text", desc := "()I" } : Jvm.MethodName) prog_1_method_40_code (1 : Nat) (Option.some Jvm.ClassFile.FieldType.int)) ∈ lw_all := lw_g (lw_at lw_m2 42 rfl) rfl
theorem q385 : (Jvm.Cond.methodLink "GleanersForGaps" (279 : Nat) ({ cls := "GleanersForGaps", name := "newText", desc := "()I" } : Jvm.MethodName)) ∈ lw_all := lw_g (lw_at lw_m2 43 rfl) rfl
theorem q386 : (Jvm.Cond.privateMethod ({ cls := "GleanersForGaps", name := "newText", desc := "()I" } : Jvm.MethodName)) ∈ lw_tbl := lw_at lw_m2 44 rfl
theorem q387 : (Jvm.Cond.instanceMethod ({ cls := "GleanersForGaps", name := "newText", desc := "()I" } : Jvm.MethodName)) ∈ lw_all := lw_g (lw_at lw_m2 45 rfl) rfl
theorem q388 : (Jvm.Cond.codeWith ({ cls := "GleanersForGaps", name := "newText", desc := "()I" } : Jvm.MethodName) prog_1_method_37_code (3 : Nat) (Option.some Jvm.ClassFile.FieldType.int) [((28 : Nat), (83 : Nat), (86 : Nat), (270 : Nat))]) ∈ lw_all := lw_g (lw_at lw_m2 46 rfl) rfl
theorem q389 : (Jvm.Cond.classLink "GleanersForGaps" (270 : Nat) "GleanersForGaps$Faulty") ∈ lw_all := lw_g (lw_at lw_m2 47 rfl) rfl
theorem q390 : (Jvm.Cond.classLink "GleanersForGaps" (268 : Nat) "GleanersForGaps$Node") ∈ lw_all := lw_g (lw_at lw_m2 48 rfl) rfl
theorem q392 : (Jvm.Cond.methodLink "GleanersForGaps" (209 : Nat) ({ cls := "GleanersForGaps", name := "next", desc := "()V" } : Jvm.MethodName)) ∈ lw_all := lw_g (lw_at lw_m2 50 rfl) rfl
theorem q393 : (Jvm.Cond.privateMethod ({ cls := "GleanersForGaps", name := "next", desc := "()V" } : Jvm.MethodName)) ∈ lw_tbl := lw_at lw_m2 51 rfl
theorem q394 : (Jvm.Cond.instanceMethod ({ cls := "GleanersForGaps", name := "next", desc := "()V" } : Jvm.MethodName)) ∈ lw_all := lw_g (lw_at lw_m2 52 rfl) rfl
theorem q395 : (Jvm.Cond.code ({ cls := "GleanersForGaps", name := "next", desc := "()V" } : Jvm.MethodName) prog_1_method_23_code (2 : Nat) (Option.none : Option Jvm.ClassFile.FieldType)) ∈ lw_all := lw_g (lw_at lw_m2 53 rfl) rfl
theorem q396 : (Jvm.Cond.methodLink "GleanersForGaps" (156 : Nat) ({ cls := "GleanersForGaps", name := "byteAt", desc := "(I)I" } : Jvm.MethodName)) ∈ lw_all := lw_g (lw_at lw_m2 54 rfl) rfl
theorem q397 : (Jvm.Cond.privateMethod ({ cls := "GleanersForGaps", name := "byteAt", desc := "(I)I" } : Jvm.MethodName)) ∈ lw_tbl := lw_at lw_m2 55 rfl
theorem q398 : (Jvm.Cond.instanceMethod ({ cls := "GleanersForGaps", name := "byteAt", desc := "(I)I" } : Jvm.MethodName)) ∈ lw_all := lw_g (lw_at lw_m2 56 rfl) rfl
theorem q399 : (Jvm.Cond.code ({ cls := "GleanersForGaps", name := "byteAt", desc := "(I)I" } : Jvm.MethodName) prog_1_method_20_code (2 : Nat) (Option.some Jvm.ClassFile.FieldType.int)) ∈ lw_all := lw_g (lw_at lw_m2 57 rfl) rfl
theorem q400 : (Jvm.Cond.methodLink "GleanersForGaps" (165 : Nat) ({ cls := "GleanersForGaps", name := "isLetter", desc := "(I)Z" } : Jvm.MethodName)) ∈ lw_all := lw_g (lw_at lw_m2 58 rfl) rfl
theorem q401 : (Jvm.Cond.static ({ cls := "GleanersForGaps", name := "isLetter", desc := "(I)Z" } : Jvm.MethodName)) ∈ lw_all := lw_g (lw_at lw_m2 59 rfl) rfl
theorem q402 : (Jvm.Cond.code ({ cls := "GleanersForGaps", name := "isLetter", desc := "(I)Z" } : Jvm.MethodName) prog_1_method_21_code (1 : Nat) (Option.some Jvm.ClassFile.FieldType.boolean)) ∈ lw_all := lw_g (lw_at lw_m2 60 rfl) rfl
theorem q403 : (Jvm.Cond.constantLong "GleanersForGaps" (145 : Nat) (97 : Int64)) ∈ lw_all := lw_g (lw_at lw_m2 61 rfl) rfl
theorem q404 : (Jvm.Cond.constantLong "GleanersForGaps" (147 : Nat) (122 : Int64)) ∈ lw_all := lw_g (lw_at lw_m2 62 rfl) rfl
theorem q405 : (Jvm.Cond.methodLink "GleanersForGaps" (168 : Nat) ({ cls := "GleanersForGaps", name := "word", desc := "()V" } : Jvm.MethodName)) ∈ lw_all := lw_g (lw_at lw_m2 63 rfl) rfl
theorem q406 : (Jvm.Cond.privateMethod ({ cls := "GleanersForGaps", name := "word", desc := "()V" } : Jvm.MethodName)) ∈ lw_tbl := lw_at lw_m2 64 rfl
theorem q407 : (Jvm.Cond.instanceMethod ({ cls := "GleanersForGaps", name := "word", desc := "()V" } : Jvm.MethodName)) ∈ lw_all := lw_g (lw_at lw_m2 65 rfl) rfl
theorem q408 : (Jvm.Cond.code ({ cls := "GleanersForGaps", name := "word", desc := "()V" } : Jvm.MethodName) prog_1_method_25_code (2 : Nat) (Option.none : Option Jvm.ClassFile.FieldType)) ∈ lw_all := lw_g (lw_at lw_m2 66 rfl) rfl
theorem q409 : (Jvm.Cond.methodLink "GleanersForGaps" (202 : Nat) ({ cls := "GleanersForGaps", name := "placeIn", desc := "([Ljava/lang/String;)I" } : Jvm.MethodName)) ∈ lw_all := lw_g (lw_at lw_m2 67 rfl) rfl
theorem q410 : (Jvm.Cond.privateMethod ({ cls := "GleanersForGaps", name := "placeIn", desc := "([Ljava/lang/String;)I" } : Jvm.MethodName)) ∈ lw_tbl := lw_at lw_m2 68 rfl
theorem q411 : (Jvm.Cond.instanceMethod ({ cls := "GleanersForGaps", name := "placeIn", desc := "([Ljava/lang/String;)I" } : Jvm.MethodName)) ∈ lw_all := lw_g (lw_at lw_m2 69 rfl) rfl
theorem q412 : (Jvm.Cond.code ({ cls := "GleanersForGaps", name := "placeIn", desc := "([Ljava/lang/String;)I" } : Jvm.MethodName) prog_1_method_24_code (5 : Nat) (Option.some Jvm.ClassFile.FieldType.int)) ∈ lw_all := lw_g (lw_at lw_m2 70 rfl) rfl
theorem q413 : (Jvm.Cond.methodLink "GleanersForGaps" (192 : Nat) ({ cls := "java/lang/String", name := "length", desc := "()I" } : Jvm.MethodName)) ∈ lw_all := lw_g (lw_at lw_m2 71 rfl) rfl
theorem q423 : (Jvm.Cond.methodLink "GleanersForGaps" (194 : Nat) ({ cls := "java/lang/String", name := "charAt", desc := "(I)C" } : Jvm.MethodName)) ∈ lw_all := lw_g (lw_at lw_m2 81 rfl) rfl
theorem q461 : (Jvm.Cond.methodLink "GleanersForGaps" (172 : Nat) ({ cls := "GleanersForGaps", name := "isDigit", desc := "(I)Z" } : Jvm.MethodName)) ∈ lw_all := lw_g (lw_at lw_m2 119 rfl) rfl
theorem q462 : (Jvm.Cond.static ({ cls := "GleanersForGaps", name := "isDigit", desc := "(I)Z" } : Jvm.MethodName)) ∈ lw_all := lw_g (lw_at lw_m2 120 rfl) rfl
theorem q463 : (Jvm.Cond.code ({ cls := "GleanersForGaps", name := "isDigit", desc := "(I)Z" } : Jvm.MethodName) prog_1_method_22_code (1 : Nat) (Option.some Jvm.ClassFile.FieldType.boolean)) ∈ lw_all := lw_g (lw_at lw_m2 121 rfl) rfl
theorem q464 : (Jvm.Cond.constantLong "GleanersForGaps" (149 : Nat) (48 : Int64)) ∈ lw_all := lw_g (lw_at lw_m2 122 rfl) rfl
theorem q465 : (Jvm.Cond.constantLong "GleanersForGaps" (151 : Nat) (57 : Int64)) ∈ lw_all := lw_g (lw_at lw_m2 123 rfl) rfl
theorem q466 : (Jvm.Cond.methodLink "GleanersForGaps" (175 : Nat) ({ cls := "GleanersForGaps", name := "digits", desc := "()V" } : Jvm.MethodName)) ∈ lw_all := lw_g (lw_at lw_m2 124 rfl) rfl
theorem q467 : (Jvm.Cond.privateMethod ({ cls := "GleanersForGaps", name := "digits", desc := "()V" } : Jvm.MethodName)) ∈ lw_tbl := lw_at lw_m2 125 rfl
theorem q468 : (Jvm.Cond.instanceMethod ({ cls := "GleanersForGaps", name := "digits", desc := "()V" } : Jvm.MethodName)) ∈ lw_all := lw_g (lw_at lw_m2 126 rfl) rfl
theorem q469 : (Jvm.Cond.code ({ cls := "GleanersForGaps", name := "digits", desc := "()V" } : Jvm.MethodName) prog_1_method_26_code (1 : Nat) (Option.none : Option Jvm.ClassFile.FieldType)) ∈ lw_all := lw_g (lw_at lw_m2 127 rfl) rfl
theorem q470 : (Jvm.Cond.stringRef "GleanersForGaps" (181 : Nat) "();+-*<=") ∈ lw_tbl := lw_at lw_m2 128 rfl
theorem q471 : (Jvm.Cond.methodLink "GleanersForGaps" (183 : Nat) ({ cls := "java/lang/String", name := "indexOf", desc := "(I)I" } : Jvm.MethodName)) ∈ lw_all := lw_g (lw_at lw_m2 129 rfl) rfl
theorem q526 : (Jvm.Cond.methodLink "GleanersForGaps" (223 : Nat) ({ cls := "GleanersForGaps", name := "isKey", desc := "(I)Z" } : Jvm.MethodName)) ∈ lw_all := lw_g (lw_at lw_m2 184 rfl) rfl
theorem q527 : (Jvm.Cond.privateMethod ({ cls := "GleanersForGaps", name := "isKey", desc := "(I)Z" } : Jvm.MethodName)) ∈ lw_tbl := lw_at lw_m2 185 rfl
theorem q528 : (Jvm.Cond.instanceMethod ({ cls := "GleanersForGaps", name := "isKey", desc := "(I)Z" } : Jvm.MethodName)) ∈ lw_all := lw_g (lw_at lw_m2 186 rfl) rfl
theorem q529 : (Jvm.Cond.code ({ cls := "GleanersForGaps", name := "isKey", desc := "(I)Z" } : Jvm.MethodName) prog_1_method_28_code (2 : Nat) (Option.some Jvm.ClassFile.FieldType.boolean)) ∈ lw_all := lw_g (lw_at lw_m2 187 rfl) rfl
theorem q530 : (Jvm.Cond.methodLink "GleanersForGaps" (215 : Nat) ({ cls := "GleanersForGaps", name := "need", desc := "(Z)V" } : Jvm.MethodName)) ∈ lw_all := lw_g (lw_at lw_m2 188 rfl) rfl
theorem q531 : (Jvm.Cond.privateMethod ({ cls := "GleanersForGaps", name := "need", desc := "(Z)V" } : Jvm.MethodName)) ∈ lw_tbl := lw_at lw_m2 189 rfl
theorem q532 : (Jvm.Cond.instanceMethod ({ cls := "GleanersForGaps", name := "need", desc := "(Z)V" } : Jvm.MethodName)) ∈ lw_all := lw_g (lw_at lw_m2 190 rfl) rfl
theorem q533 : (Jvm.Cond.code ({ cls := "GleanersForGaps", name := "need", desc := "(Z)V" } : Jvm.MethodName) prog_1_method_29_code (2 : Nat) (Option.none : Option Jvm.ClassFile.FieldType)) ∈ lw_all := lw_g (lw_at lw_m2 191 rfl) rfl
theorem q534 : (Jvm.Cond.methodLink "GleanersForGaps" (262 : Nat) ({ cls := "GleanersForGaps", name := "either", desc := "()LGleanersForGaps$Node;" } : Jvm.MethodName)) ∈ lw_all := lw_g (lw_at lw_m2 192 rfl) rfl
theorem q535 : (Jvm.Cond.privateMethod ({ cls := "GleanersForGaps", name := "either", desc := "()LGleanersForGaps$Node;" } : Jvm.MethodName)) ∈ lw_tbl := lw_at lw_m2 193 rfl
theorem q536 : (Jvm.Cond.instanceMethod ({ cls := "GleanersForGaps", name := "either", desc := "()LGleanersForGaps$Node;" } : Jvm.MethodName)) ∈ lw_all := lw_g (lw_at lw_m2 194 rfl) rfl
theorem q537 : (Jvm.Cond.code ({ cls := "GleanersForGaps", name := "either", desc := "()LGleanersForGaps$Node;" } : Jvm.MethodName) prog_1_method_31_code (2 : Nat) (Option.some (Jvm.ClassFile.FieldType.object "GleanersForGaps$Node"))) ∈ lw_all := lw_g (lw_at lw_m2 195 rfl) rfl
theorem q538 : (Jvm.Cond.methodLink "GleanersForGaps" (219 : Nat) ({ cls := "GleanersForGaps", name := "both", desc := "()LGleanersForGaps$Node;" } : Jvm.MethodName)) ∈ lw_all := lw_g (lw_at lw_m2 196 rfl) rfl
theorem q539 : (Jvm.Cond.privateMethod ({ cls := "GleanersForGaps", name := "both", desc := "()LGleanersForGaps$Node;" } : Jvm.MethodName)) ∈ lw_tbl := lw_at lw_m2 197 rfl
theorem q540 : (Jvm.Cond.instanceMethod ({ cls := "GleanersForGaps", name := "both", desc := "()LGleanersForGaps$Node;" } : Jvm.MethodName)) ∈ lw_all := lw_g (lw_at lw_m2 198 rfl) rfl
theorem q541 : (Jvm.Cond.code ({ cls := "GleanersForGaps", name := "both", desc := "()LGleanersForGaps$Node;" } : Jvm.MethodName) prog_1_method_32_code (2 : Nat) (Option.some (Jvm.ClassFile.FieldType.object "GleanersForGaps$Node"))) ∈ lw_all := lw_g (lw_at lw_m2 199 rfl) rfl
theorem q542 : (Jvm.Cond.methodLink "GleanersForGaps" (231 : Nat) ({ cls := "GleanersForGaps", name := "not", desc := "()LGleanersForGaps$Node;" } : Jvm.MethodName)) ∈ lw_all := lw_g (lw_at lw_m2 200 rfl) rfl
theorem q543 : (Jvm.Cond.privateMethod ({ cls := "GleanersForGaps", name := "not", desc := "()LGleanersForGaps$Node;" } : Jvm.MethodName)) ∈ lw_tbl := lw_at lw_m2 201 rfl
theorem q544 : (Jvm.Cond.instanceMethod ({ cls := "GleanersForGaps", name := "not", desc := "()LGleanersForGaps$Node;" } : Jvm.MethodName)) ∈ lw_all := lw_g (lw_at lw_m2 202 rfl) rfl
theorem q545 : (Jvm.Cond.code ({ cls := "GleanersForGaps", name := "not", desc := "()LGleanersForGaps$Node;" } : Jvm.MethodName) prog_1_method_33_code (3 : Nat) (Option.some (Jvm.ClassFile.FieldType.object "GleanersForGaps$Node"))) ∈ lw_all := lw_g (lw_at lw_m2 203 rfl) rfl
theorem q546 : (Jvm.Cond.methodLink "GleanersForGaps" (234 : Nat) ({ cls := "GleanersForGaps", name := "openOne", desc := "()V" } : Jvm.MethodName)) ∈ lw_all := lw_g (lw_at lw_m2 204 rfl) rfl
theorem q547 : (Jvm.Cond.privateMethod ({ cls := "GleanersForGaps", name := "openOne", desc := "()V" } : Jvm.MethodName)) ∈ lw_tbl := lw_at lw_m2 205 rfl
theorem q548 : (Jvm.Cond.instanceMethod ({ cls := "GleanersForGaps", name := "openOne", desc := "()V" } : Jvm.MethodName)) ∈ lw_all := lw_g (lw_at lw_m2 206 rfl) rfl
theorem q549 : (Jvm.Cond.code ({ cls := "GleanersForGaps", name := "openOne", desc := "()V" } : Jvm.MethodName) prog_1_method_30_code (1 : Nat) (Option.none : Option Jvm.ClassFile.FieldType)) ∈ lw_all := lw_g (lw_at lw_m2 207 rfl) rfl
theorem q550 : (Jvm.Cond.classLink "GleanersForGaps" (237 : Nat) "GleanersForGaps$Turned") ∈ lw_all := lw_g (lw_at lw_m2 208 rfl) rfl
theorem q552 : (Jvm.Cond.methodLink "GleanersForGaps" (239 : Nat) ({ cls := "GleanersForGaps$Turned", name := "<init>", desc := "(LGleanersForGaps$Node;Z)V" } : Jvm.MethodName)) ∈ lw_all := lw_g (lw_at lw_m2 210 rfl) rfl
theorem q567 : (Jvm.Cond.methodLink "GleanersForGaps" (242 : Nat) ({ cls := "GleanersForGaps", name := "plus", desc := "()LGleanersForGaps$Node;" } : Jvm.MethodName)) ∈ lw_all := lw_g (lw_at lw_m2 225 rfl) rfl
theorem q568 : (Jvm.Cond.privateMethod ({ cls := "GleanersForGaps", name := "plus", desc := "()LGleanersForGaps$Node;" } : Jvm.MethodName)) ∈ lw_tbl := lw_at lw_m2 226 rfl
theorem q569 : (Jvm.Cond.instanceMethod ({ cls := "GleanersForGaps", name := "plus", desc := "()LGleanersForGaps$Node;" } : Jvm.MethodName)) ∈ lw_all := lw_g (lw_at lw_m2 227 rfl) rfl
theorem q570 : (Jvm.Cond.code ({ cls := "GleanersForGaps", name := "plus", desc := "()LGleanersForGaps$Node;" } : Jvm.MethodName) prog_1_method_34_code (3 : Nat) (Option.some (Jvm.ClassFile.FieldType.object "GleanersForGaps$Node"))) ∈ lw_all := lw_g (lw_at lw_m2 228 rfl) rfl
theorem q571 : (Jvm.Cond.methodLink "GleanersForGaps" (248 : Nat) ({ cls := "GleanersForGaps", name := "times", desc := "()LGleanersForGaps$Node;" } : Jvm.MethodName)) ∈ lw_all := lw_g (lw_at lw_m2 229 rfl) rfl
theorem q572 : (Jvm.Cond.privateMethod ({ cls := "GleanersForGaps", name := "times", desc := "()LGleanersForGaps$Node;" } : Jvm.MethodName)) ∈ lw_tbl := lw_at lw_m2 230 rfl
theorem q573 : (Jvm.Cond.instanceMethod ({ cls := "GleanersForGaps", name := "times", desc := "()LGleanersForGaps$Node;" } : Jvm.MethodName)) ∈ lw_all := lw_g (lw_at lw_m2 231 rfl) rfl
theorem q574 : (Jvm.Cond.code ({ cls := "GleanersForGaps", name := "times", desc := "()LGleanersForGaps$Node;" } : Jvm.MethodName) prog_1_method_35_code (2 : Nat) (Option.some (Jvm.ClassFile.FieldType.object "GleanersForGaps$Node"))) ∈ lw_all := lw_g (lw_at lw_m2 232 rfl) rfl
theorem q575 : (Jvm.Cond.methodLink "GleanersForGaps" (251 : Nat) ({ cls := "GleanersForGaps", name := "one", desc := "()LGleanersForGaps$Node;" } : Jvm.MethodName)) ∈ lw_all := lw_g (lw_at lw_m2 233 rfl) rfl
theorem q576 : (Jvm.Cond.privateMethod ({ cls := "GleanersForGaps", name := "one", desc := "()LGleanersForGaps$Node;" } : Jvm.MethodName)) ∈ lw_tbl := lw_at lw_m2 234 rfl
theorem q577 : (Jvm.Cond.instanceMethod ({ cls := "GleanersForGaps", name := "one", desc := "()LGleanersForGaps$Node;" } : Jvm.MethodName)) ∈ lw_all := lw_g (lw_at lw_m2 235 rfl) rfl
theorem q578 : (Jvm.Cond.code ({ cls := "GleanersForGaps", name := "one", desc := "()LGleanersForGaps$Node;" } : Jvm.MethodName) prog_1_method_36_code (3 : Nat) (Option.some (Jvm.ClassFile.FieldType.object "GleanersForGaps$Node"))) ∈ lw_all := lw_g (lw_at lw_m2 236 rfl) rfl
theorem q579 : (Jvm.Cond.classLink "GleanersForGaps" (254 : Nat) "GleanersForGaps$Number") ∈ lw_all := lw_g (lw_at lw_m2 237 rfl) rfl
theorem q581 : (Jvm.Cond.methodLink "GleanersForGaps" (256 : Nat) ({ cls := "GleanersForGaps$Number", name := "<init>", desc := "(I)V" } : Jvm.MethodName)) ∈ lw_all := lw_g (lw_at lw_m2 239 rfl) rfl
theorem q589 : (Jvm.Cond.classLink "GleanersForGaps" (257 : Nat) "GleanersForGaps$Name") ∈ lw_all := lw_g (lw_at lw_m3 7 rfl) rfl
theorem q591 : (Jvm.Cond.methodLink "GleanersForGaps" (259 : Nat) ({ cls := "GleanersForGaps$Name", name := "<init>", desc := "(LGleanersForGaps;I)V" } : Jvm.MethodName)) ∈ lw_all := lw_g (lw_at lw_m3 9 rfl) rfl
theorem q602 : (Jvm.Cond.methodLink "GleanersForGaps" (245 : Nat) ({ cls := "GleanersForGaps", name := "isSign", desc := "(I)Z" } : Jvm.MethodName)) ∈ lw_all := lw_g (lw_at lw_m3 20 rfl) rfl
theorem q603 : (Jvm.Cond.privateMethod ({ cls := "GleanersForGaps", name := "isSign", desc := "(I)Z" } : Jvm.MethodName)) ∈ lw_tbl := lw_at lw_m3 21 rfl
theorem q604 : (Jvm.Cond.instanceMethod ({ cls := "GleanersForGaps", name := "isSign", desc := "(I)Z" } : Jvm.MethodName)) ∈ lw_all := lw_g (lw_at lw_m3 22 rfl) rfl
theorem q605 : (Jvm.Cond.code ({ cls := "GleanersForGaps", name := "isSign", desc := "(I)Z" } : Jvm.MethodName) prog_1_method_27_code (2 : Nat) (Option.some Jvm.ClassFile.FieldType.boolean)) ∈ lw_all := lw_g (lw_at lw_m3 23 rfl) rfl
theorem q606 : (Jvm.Cond.classLink "GleanersForGaps" (226 : Nat) "GleanersForGaps$Two") ∈ lw_all := lw_g (lw_at lw_m3 24 rfl) rfl
theorem q608 : (Jvm.Cond.methodLink "GleanersForGaps" (228 : Nat) ({ cls := "GleanersForGaps$Two", name := "<init>", desc := "(ILGleanersForGaps$Node;LGleanersForGaps$Node;)V" } : Jvm.MethodName)) ∈ lw_all := lw_g (lw_at lw_m3 26 rfl) rfl
theorem q624 : (Jvm.Cond.instanceMethod ({ cls := "GleanersForGaps", name := "<init>", desc := "()V" } : Jvm.MethodName)) ∈ lw_all := lw_g (lw_at lw_m3 42 rfl) rfl
theorem q625 : (Jvm.Cond.code ({ cls := "GleanersForGaps", name := "<init>", desc := "()V" } : Jvm.MethodName) prog_1_method_42_code (1 : Nat) (Option.none : Option Jvm.ClassFile.FieldType)) ∈ lw_all := lw_g (lw_at lw_m3 43 rfl) rfl
theorem q626 : (Jvm.Cond.methodLink "GleanersForGaps" (284 : Nat) ({ cls := "java/lang/Object", name := "<init>", desc := "()V" } : Jvm.MethodName)) ∈ lw_all := lw_g (lw_at lw_m3 44 rfl) rfl
theorem q684 : (Jvm.Cond.methodLink "GleanersForGaps" (288 : Nat) ({ cls := "GleanersForGaps$Faulty", name := "<init>", desc := "()V" } : Jvm.MethodName)) ∈ lw_all := lw_g (lw_at lw_m3 102 rfl) rfl
theorem q710 : (Jvm.Cond.classLink "GleanersForGaps" (289 : Nat) "[LGleanersForGaps$Node;") ∈ lw_all := lw_g (lw_at lw_m3 128 rfl) rfl
theorem q712 : (Jvm.Cond.classLink "GleanersForGaps" (184 : Nat) "java/lang/String") ∈ lw_all := lw_g (lw_at lw_m3 130 rfl) rfl
theorem q714 : (Jvm.Cond.stringRef "GleanersForGaps" (291 : Nat) "takes") ∈ lw_tbl := lw_at lw_m3 132 rfl
theorem q715 : (Jvm.Cond.stringRef "GleanersForGaps" (293 : Nat) "keeps") ∈ lw_tbl := lw_at lw_m3 133 rfl
theorem q716 : (Jvm.Cond.stringRef "GleanersForGaps" (295 : Nat) "shakes") ∈ lw_tbl := lw_at lw_m3 134 rfl
theorem q717 : (Jvm.Cond.stringRef "GleanersForGaps" (297 : Nat) "or") ∈ lw_tbl := lw_at lw_m3 135 rfl
theorem q718 : (Jvm.Cond.stringRef "GleanersForGaps" (299 : Nat) "and") ∈ lw_tbl := lw_at lw_m3 136 rfl
theorem q719 : (Jvm.Cond.stringRef "GleanersForGaps" (301 : Nat) "not") ∈ lw_tbl := lw_at lw_m3 137 rfl
theorem q720 : (Jvm.Cond.stringRef "GleanersForGaps" (302 : Nat) "gap") ∈ lw_tbl := lw_at lw_m3 138 rfl
theorem q721 : (Jvm.Cond.stringRef "GleanersForGaps" (304 : Nat) "nth") ∈ lw_tbl := lw_at lw_m3 139 rfl
theorem q722 : (Jvm.Cond.stringRef "GleanersForGaps" (306 : Nat) "number") ∈ lw_tbl := lw_at lw_m3 140 rfl
theorem q723 : (Jvm.Cond.stringRef "GleanersForGaps" (307 : Nat) "night") ∈ lw_tbl := lw_at lw_m3 141 rfl
theorem q724 : (Jvm.Cond.stringRef "GleanersForGaps" (308 : Nat) "apron") ∈ lw_tbl := lw_at lw_m3 142 rfl
theorem q725 : (Jvm.Cond.stringRef "GleanersForGaps" (309 : Nat) "row") ∈ lw_tbl := lw_at lw_m3 143 rfl
theorem q726 : (Jvm.Cond.classLink "GleanersForGaps" (316 : Nat) "[[I") ∈ lw_all := lw_g (lw_at lw_m3 144 rfl) rfl
theorem q728 : (Jvm.Cond.classLink "GleanersForGaps" (339 : Nat) "GleanersForGaps$Sheet") ∈ lw_all := lw_g (lw_at lw_m3 146 rfl) rfl
theorem q731 : (Jvm.Cond.methodLinkNest "GleanersForGaps" (341 : Nat) ({ cls := "GleanersForGaps$Sheet", name := "<init>", desc := "()V" } : Jvm.MethodName) "GleanersForGaps") ∈ lw_tbl := lw_at lw_m3 149 rfl
theorem q735 : (Jvm.Cond.fieldLinkNest "GleanersForGaps" (499 : Nat) "GleanersForGaps$Sheet" "row" "Ljava/lang/Object;" "GleanersForGaps") ∈ lw_tbl := lw_at lw_m3 153 rfl
theorem q739 : (Jvm.Cond.stringRef "GleanersForGaps" (346 : Nat) "takes gap ; keeps 50 ; shakes 0 ;") ∈ lw_tbl := lw_at lw_m3 157 rfl
theorem q740 : (Jvm.Cond.methodLink "GleanersForGaps" (348 : Nat) ({ cls := "GleanersForGaps", name := "firstText", desc := "(Ljava/lang/String;)V" } : Jvm.MethodName)) ∈ lw_all := lw_g (lw_at lw_m3 158 rfl) rfl
theorem q741 : (Jvm.Cond.privateMethod ({ cls := "GleanersForGaps", name := "firstText", desc := "(Ljava/lang/String;)V" } : Jvm.MethodName)) ∈ lw_tbl := lw_at lw_m3 159 rfl
theorem q742 : (Jvm.Cond.instanceMethod ({ cls := "GleanersForGaps", name := "firstText", desc := "(Ljava/lang/String;)V" } : Jvm.MethodName)) ∈ lw_all := lw_g (lw_at lw_m3 160 rfl) rfl
theorem q743 : (Jvm.Cond.code ({ cls := "GleanersForGaps", name := "firstText", desc := "(Ljava/lang/String;)V" } : Jvm.MethodName) prog_1_method_38_code (3 : Nat) (Option.none : Option Jvm.ClassFile.FieldType)) ∈ lw_all := lw_g (lw_at lw_m3 161 rfl) rfl
theorem q744 : (Jvm.Cond.fieldLink "GleanersForGaps" (47 : Nat) "GleanersForGaps" "folk" "[LGleanersForGaps$Gleaner;") ∈ lw_all := lw_g (lw_at lw_m3 162 rfl) rfl
theorem q745 : (Jvm.Cond.fieldLink "GleanersForGaps" (18 : Nat) "GleanersForGaps" "many" "I") ∈ lw_all := lw_g (lw_at lw_m3 163 rfl) rfl
theorem q747 : (Jvm.Cond.fieldLink "GleanersForGaps" (82 : Nat) "GleanersForGaps" "night" "I") ∈ lw_all := lw_g (lw_at lw_m3 165 rfl) rfl
theorem q748 : (Jvm.Cond.fieldLink "GleanersForGaps" (61 : Nat) "GleanersForGaps" "lengths" "[I") ∈ lw_all := lw_g (lw_at lw_m3 166 rfl) rfl
theorem q749 : (Jvm.Cond.fieldLink "GleanersForGaps" (65 : Nat) "GleanersForGaps" "stalks" "[I") ∈ lw_all := lw_g (lw_at lw_m3 167 rfl) rfl
theorem q750 : (Jvm.Cond.fieldLink "GleanersForGaps" (132 : Nat) "GleanersForGaps" "sizes" "[I") ∈ lw_all := lw_g (lw_at lw_m3 168 rfl) rfl
theorem q751 : (Jvm.Cond.fieldLink "GleanersForGaps" (188 : Nat) "GleanersForGaps" "faulty" "LGleanersForGaps$Faulty;") ∈ lw_all := lw_g (lw_at lw_m3 169 rfl) rfl
theorem q753 : (Jvm.Cond.fieldLink "GleanersForGaps" (358 : Nat) "GleanersForGaps" "forGap" "I") ∈ lw_all := lw_g (lw_at lw_m3 171 rfl) rfl
theorem q755 : (Jvm.Cond.fieldLink "GleanersForGaps" (361 : Nat) "GleanersForGaps" "forNth" "I") ∈ lw_all := lw_g (lw_at lw_m3 173 rfl) rfl
theorem q757 : (Jvm.Cond.fieldLink "GleanersForGaps" (370 : Nat) "GleanersForGaps" "forNumber" "I") ∈ lw_all := lw_g (lw_at lw_m3 175 rfl) rfl
theorem q759 : (Jvm.Cond.fieldLink "GleanersForGaps" (373 : Nat) "GleanersForGaps" "forApron" "I") ∈ lw_all := lw_g (lw_at lw_m3 177 rfl) rfl
theorem q761 : (Jvm.Cond.fieldLink "GleanersForGaps" (364 : Nat) "GleanersForGaps" "forRow" "I") ∈ lw_all := lw_g (lw_at lw_m3 179 rfl) rfl
theorem q762 : (Jvm.Cond.fieldLink "GleanersForGaps" (272 : Nat) "GleanersForGaps" "texts" "[[LGleanersForGaps$Node;") ∈ lw_all := lw_g (lw_at lw_m3 180 rfl) rfl
theorem q763 : (Jvm.Cond.fieldLink "GleanersForGaps" (276 : Nat) "GleanersForGaps" "textMany" "I") ∈ lw_all := lw_g (lw_at lw_m3 181 rfl) rfl
theorem q764 : (Jvm.Cond.fieldLink "GleanersForGaps" (198 : Nat) "GleanersForGaps" "keys" "[Ljava/lang/String;") ∈ lw_all := lw_g (lw_at lw_m3 182 rfl) rfl
theorem q765 : (Jvm.Cond.fieldLink "GleanersForGaps" (206 : Nat) "GleanersForGaps" "names" "[Ljava/lang/String;") ∈ lw_all := lw_g (lw_at lw_m3 183 rfl) rfl
theorem q766 : (Jvm.Cond.fieldLink "GleanersForGaps" (141 : Nat) "GleanersForGaps" "tape" "[B") ∈ lw_all := lw_g (lw_at lw_m3 184 rfl) rfl
theorem q767 : (Jvm.Cond.fieldLink "GleanersForGaps" (265 : Nat) "GleanersForGaps" "taped" "I") ∈ lw_all := lw_g (lw_at lw_m3 185 rfl) rfl
theorem q768 : (Jvm.Cond.fieldLink "GleanersForGaps" (138 : Nat) "GleanersForGaps" "length" "I") ∈ lw_all := lw_g (lw_at lw_m3 186 rfl) rfl
theorem q769 : (Jvm.Cond.fieldLink "GleanersForGaps" (153 : Nat) "GleanersForGaps" "at" "I") ∈ lw_all := lw_g (lw_at lw_m3 187 rfl) rfl
theorem q770 : (Jvm.Cond.fieldLink "GleanersForGaps" (159 : Nat) "GleanersForGaps" "begin" "I") ∈ lw_all := lw_g (lw_at lw_m3 188 rfl) rfl
theorem q771 : (Jvm.Cond.fieldLink "GleanersForGaps" (162 : Nat) "GleanersForGaps" "token" "I") ∈ lw_all := lw_g (lw_at lw_m3 189 rfl) rfl
theorem q772 : (Jvm.Cond.fieldLink "GleanersForGaps" (178 : Nat) "GleanersForGaps" "value" "I") ∈ lw_all := lw_g (lw_at lw_m3 190 rfl) rfl
theorem q773 : (Jvm.Cond.fieldLink "GleanersForGaps" (212 : Nat) "GleanersForGaps" "opens" "I") ∈ lw_all := lw_g (lw_at lw_m3 191 rfl) rfl
theorem q774 : (Jvm.Cond.fieldLink "GleanersForGaps" (355 : Nat) "GleanersForGaps" "rule" "I") ∈ lw_all := lw_g (lw_at lw_m3 192 rfl) rfl
theorem q775 : (Jvm.Cond.fieldLink "GleanersForGaps" (311 : Nat) "GleanersForGaps" "tookOf" "[I") ∈ lw_all := lw_g (lw_at lw_m3 193 rfl) rfl
theorem q776 : (Jvm.Cond.fieldLink "GleanersForGaps" (402 : Nat) "GleanersForGaps" "runsGleaned" "I") ∈ lw_all := lw_g (lw_at lw_m3 194 rfl) rfl
theorem q777 : (Jvm.Cond.fieldLink "GleanersForGaps" (314 : Nat) "GleanersForGaps" "next" "[I") ∈ lw_all := lw_g (lw_at lw_m3 195 rfl) rfl
theorem q778 : (Jvm.Cond.fieldLink "GleanersForGaps" (318 : Nat) "GleanersForGaps" "keptApron" "[[I") ∈ lw_all := lw_g (lw_at lw_m3 196 rfl) rfl
theorem q779 : (Jvm.Cond.fieldLink "GleanersForGaps" (321 : Nat) "GleanersForGaps" "keptLength" "[[I") ∈ lw_all := lw_g (lw_at lw_m3 197 rfl) rfl
theorem q780 : (Jvm.Cond.fieldLink "GleanersForGaps" (324 : Nat) "GleanersForGaps" "keptStalks" "[[I") ∈ lw_all := lw_g (lw_at lw_m3 198 rfl) rfl
theorem q781 : (Jvm.Cond.fieldLink "GleanersForGaps" (327 : Nat) "GleanersForGaps" "keptNight" "[I") ∈ lw_all := lw_g (lw_at lw_m3 199 rfl) rfl
theorem q782 : (Jvm.Cond.fieldLink "GleanersForGaps" (443 : Nat) "GleanersForGaps" "bestDigits" "I") ∈ lw_all := lw_g (lw_at lw_m3 200 rfl) rfl
theorem q783 : (Jvm.Cond.fieldLink "GleanersForGaps" (440 : Nat) "GleanersForGaps" "bestWorth" "I") ∈ lw_all := lw_g (lw_at lw_m3 201 rfl) rfl
theorem q784 : (Jvm.Cond.fieldLink "GleanersForGaps" (436 : Nat) "GleanersForGaps" "isFound" "Z") ∈ lw_all := lw_g (lw_at lw_m3 202 rfl) rfl
theorem q785 : (Jvm.Cond.fieldLink "GleanersForGaps" (531 : Nat) "GleanersForGaps" "hasImage" "Z") ∈ lw_all := lw_g (lw_at lw_m3 203 rfl) rfl
theorem q786 : (Jvm.Cond.fieldLink "GleanersForGaps" (330 : Nat) "GleanersForGaps" "imageRows" "[[I") ∈ lw_all := lw_g (lw_at lw_m3 204 rfl) rfl
theorem q787 : (Jvm.Cond.fieldLink "GleanersForGaps" (333 : Nat) "GleanersForGaps" "imageFolk" "[[I") ∈ lw_all := lw_g (lw_at lw_m3 205 rfl) rfl
theorem q788 : (Jvm.Cond.fieldLink "GleanersForGaps" (336 : Nat) "GleanersForGaps" "imageNumbers" "[I") ∈ lw_all := lw_g (lw_at lw_m3 206 rfl) rfl
theorem q789 : (Jvm.Cond.fieldLink "GleanersForGaps" (342 : Nat) "GleanersForGaps" "sheets" "[LGleanersForGaps$Sheet;") ∈ lw_all := lw_g (lw_at lw_m3 207 rfl) rfl
theorem q790 : (Jvm.Cond.laysFinal "GleanersForGaps" "GleanersForGaps" "folk" "[LGleanersForGaps$Gleaner;") ∈ lw_all := lw_g (lw_at lw_m3 208 rfl) rfl
theorem q791 : (Jvm.Cond.soleField "GleanersForGaps" "folk") ∈ lw_all := lw_g (lw_at lw_m3 209 rfl) rfl
theorem q792 : (Jvm.Cond.lays "GleanersForGaps" "GleanersForGaps" "many" "I") ∈ lw_all := lw_g (lw_at lw_m3 210 rfl) rfl
theorem q793 : (Jvm.Cond.soleField "GleanersForGaps" "many") ∈ lw_all := lw_g (lw_at lw_m3 211 rfl) rfl
theorem q794 : (Jvm.Cond.lays "GleanersForGaps" "GleanersForGaps" "night" "I") ∈ lw_all := lw_g (lw_at lw_m3 212 rfl) rfl
theorem q795 : (Jvm.Cond.soleField "GleanersForGaps" "night") ∈ lw_all := lw_g (lw_at lw_m3 213 rfl) rfl
theorem q796 : (Jvm.Cond.laysFinal "GleanersForGaps" "GleanersForGaps" "lengths" "[I") ∈ lw_all := lw_g (lw_at lw_m3 214 rfl) rfl
theorem q797 : (Jvm.Cond.soleField "GleanersForGaps" "lengths") ∈ lw_all := lw_g (lw_at lw_m3 215 rfl) rfl
theorem q798 : (Jvm.Cond.laysFinal "GleanersForGaps" "GleanersForGaps" "stalks" "[I") ∈ lw_all := lw_g (lw_at lw_m3 216 rfl) rfl
theorem q799 : (Jvm.Cond.soleField "GleanersForGaps" "stalks") ∈ lw_all := lw_g (lw_at lw_m3 217 rfl) rfl
theorem q800 : (Jvm.Cond.laysFinal "GleanersForGaps" "GleanersForGaps" "sizes" "[I") ∈ lw_all := lw_g (lw_at lw_m3 218 rfl) rfl
theorem q801 : (Jvm.Cond.soleField "GleanersForGaps" "sizes") ∈ lw_all := lw_g (lw_at lw_m3 219 rfl) rfl
theorem q802 : (Jvm.Cond.laysFinal "GleanersForGaps" "GleanersForGaps" "faulty" "LGleanersForGaps$Faulty;") ∈ lw_all := lw_g (lw_at lw_m3 220 rfl) rfl
theorem q803 : (Jvm.Cond.soleField "GleanersForGaps" "faulty") ∈ lw_all := lw_g (lw_at lw_m3 221 rfl) rfl
theorem q804 : (Jvm.Cond.lays "GleanersForGaps" "GleanersForGaps" "forGap" "I") ∈ lw_all := lw_g (lw_at lw_m3 222 rfl) rfl
theorem q805 : (Jvm.Cond.soleField "GleanersForGaps" "forGap") ∈ lw_all := lw_g (lw_at lw_m3 223 rfl) rfl
theorem q806 : (Jvm.Cond.lays "GleanersForGaps" "GleanersForGaps" "forNth" "I") ∈ lw_all := lw_g (lw_at lw_m3 224 rfl) rfl
theorem q807 : (Jvm.Cond.soleField "GleanersForGaps" "forNth") ∈ lw_all := lw_g (lw_at lw_m3 225 rfl) rfl
theorem q808 : (Jvm.Cond.lays "GleanersForGaps" "GleanersForGaps" "forNumber" "I") ∈ lw_all := lw_g (lw_at lw_m3 226 rfl) rfl
theorem q809 : (Jvm.Cond.soleField "GleanersForGaps" "forNumber") ∈ lw_all := lw_g (lw_at lw_m3 227 rfl) rfl
theorem q810 : (Jvm.Cond.lays "GleanersForGaps" "GleanersForGaps" "forApron" "I") ∈ lw_all := lw_g (lw_at lw_m3 228 rfl) rfl
theorem q811 : (Jvm.Cond.soleField "GleanersForGaps" "forApron") ∈ lw_all := lw_g (lw_at lw_m3 229 rfl) rfl
theorem q812 : (Jvm.Cond.lays "GleanersForGaps" "GleanersForGaps" "forRow" "I") ∈ lw_all := lw_g (lw_at lw_m3 230 rfl) rfl
theorem q813 : (Jvm.Cond.soleField "GleanersForGaps" "forRow") ∈ lw_all := lw_g (lw_at lw_m3 231 rfl) rfl
theorem q814 : (Jvm.Cond.laysFinal "GleanersForGaps" "GleanersForGaps" "texts" "[[LGleanersForGaps$Node;") ∈ lw_all := lw_g (lw_at lw_m3 232 rfl) rfl
theorem q815 : (Jvm.Cond.soleField "GleanersForGaps" "texts") ∈ lw_all := lw_g (lw_at lw_m3 233 rfl) rfl
theorem q816 : (Jvm.Cond.lays "GleanersForGaps" "GleanersForGaps" "textMany" "I") ∈ lw_all := lw_g (lw_at lw_m3 234 rfl) rfl
theorem q817 : (Jvm.Cond.soleField "GleanersForGaps" "textMany") ∈ lw_all := lw_g (lw_at lw_m3 235 rfl) rfl
theorem q818 : (Jvm.Cond.laysFinal "GleanersForGaps" "GleanersForGaps" "keys" "[Ljava/lang/String;") ∈ lw_all := lw_g (lw_at lw_m3 236 rfl) rfl
theorem q819 : (Jvm.Cond.soleField "GleanersForGaps" "keys") ∈ lw_all := lw_g (lw_at lw_m3 237 rfl) rfl
theorem q820 : (Jvm.Cond.laysFinal "GleanersForGaps" "GleanersForGaps" "names" "[Ljava/lang/String;") ∈ lw_all := lw_g (lw_at lw_m3 238 rfl) rfl
theorem q821 : (Jvm.Cond.soleField "GleanersForGaps" "names") ∈ lw_all := lw_g (lw_at lw_m3 239 rfl) rfl
theorem q822 : (Jvm.Cond.laysFinal "GleanersForGaps" "GleanersForGaps" "tape" "[B") ∈ lw_all := lw_g (lw_at lw_m4 0 rfl) rfl
theorem q823 : (Jvm.Cond.soleField "GleanersForGaps" "tape") ∈ lw_all := lw_g (lw_at lw_m4 1 rfl) rfl
theorem q824 : (Jvm.Cond.lays "GleanersForGaps" "GleanersForGaps" "taped" "I") ∈ lw_all := lw_g (lw_at lw_m4 2 rfl) rfl
theorem q825 : (Jvm.Cond.soleField "GleanersForGaps" "taped") ∈ lw_all := lw_g (lw_at lw_m4 3 rfl) rfl
theorem q826 : (Jvm.Cond.lays "GleanersForGaps" "GleanersForGaps" "length" "I") ∈ lw_all := lw_g (lw_at lw_m4 4 rfl) rfl
theorem q827 : (Jvm.Cond.soleField "GleanersForGaps" "length") ∈ lw_all := lw_g (lw_at lw_m4 5 rfl) rfl
theorem q828 : (Jvm.Cond.lays "GleanersForGaps" "GleanersForGaps" "at" "I") ∈ lw_all := lw_g (lw_at lw_m4 6 rfl) rfl
theorem q829 : (Jvm.Cond.soleField "GleanersForGaps" "at") ∈ lw_all := lw_g (lw_at lw_m4 7 rfl) rfl
theorem q830 : (Jvm.Cond.lays "GleanersForGaps" "GleanersForGaps" "begin" "I") ∈ lw_all := lw_g (lw_at lw_m4 8 rfl) rfl
theorem q831 : (Jvm.Cond.soleField "GleanersForGaps" "begin") ∈ lw_all := lw_g (lw_at lw_m4 9 rfl) rfl
theorem q832 : (Jvm.Cond.lays "GleanersForGaps" "GleanersForGaps" "token" "I") ∈ lw_all := lw_g (lw_at lw_m4 10 rfl) rfl
theorem q833 : (Jvm.Cond.soleField "GleanersForGaps" "token") ∈ lw_all := lw_g (lw_at lw_m4 11 rfl) rfl
theorem q834 : (Jvm.Cond.lays "GleanersForGaps" "GleanersForGaps" "value" "I") ∈ lw_all := lw_g (lw_at lw_m4 12 rfl) rfl
theorem q835 : (Jvm.Cond.soleField "GleanersForGaps" "value") ∈ lw_all := lw_g (lw_at lw_m4 13 rfl) rfl
theorem q836 : (Jvm.Cond.lays "GleanersForGaps" "GleanersForGaps" "opens" "I") ∈ lw_all := lw_g (lw_at lw_m4 14 rfl) rfl
theorem q837 : (Jvm.Cond.soleField "GleanersForGaps" "opens") ∈ lw_all := lw_g (lw_at lw_m4 15 rfl) rfl
theorem q838 : (Jvm.Cond.lays "GleanersForGaps" "GleanersForGaps" "rule" "I") ∈ lw_all := lw_g (lw_at lw_m4 16 rfl) rfl
theorem q839 : (Jvm.Cond.soleField "GleanersForGaps" "rule") ∈ lw_all := lw_g (lw_at lw_m4 17 rfl) rfl
theorem q840 : (Jvm.Cond.laysFinal "GleanersForGaps" "GleanersForGaps" "tookOf" "[I") ∈ lw_all := lw_g (lw_at lw_m4 18 rfl) rfl
theorem q841 : (Jvm.Cond.soleField "GleanersForGaps" "tookOf") ∈ lw_all := lw_g (lw_at lw_m4 19 rfl) rfl
theorem q842 : (Jvm.Cond.lays "GleanersForGaps" "GleanersForGaps" "runsGleaned" "I") ∈ lw_all := lw_g (lw_at lw_m4 20 rfl) rfl
theorem q843 : (Jvm.Cond.soleField "GleanersForGaps" "runsGleaned") ∈ lw_all := lw_g (lw_at lw_m4 21 rfl) rfl
theorem q844 : (Jvm.Cond.laysFinal "GleanersForGaps" "GleanersForGaps" "next" "[I") ∈ lw_all := lw_g (lw_at lw_m4 22 rfl) rfl
theorem q845 : (Jvm.Cond.soleField "GleanersForGaps" "next") ∈ lw_all := lw_g (lw_at lw_m4 23 rfl) rfl
theorem q846 : (Jvm.Cond.laysFinal "GleanersForGaps" "GleanersForGaps" "keptApron" "[[I") ∈ lw_all := lw_g (lw_at lw_m4 24 rfl) rfl
theorem q847 : (Jvm.Cond.soleField "GleanersForGaps" "keptApron") ∈ lw_all := lw_g (lw_at lw_m4 25 rfl) rfl
theorem q848 : (Jvm.Cond.laysFinal "GleanersForGaps" "GleanersForGaps" "keptLength" "[[I") ∈ lw_all := lw_g (lw_at lw_m4 26 rfl) rfl
theorem q849 : (Jvm.Cond.soleField "GleanersForGaps" "keptLength") ∈ lw_all := lw_g (lw_at lw_m4 27 rfl) rfl
theorem q850 : (Jvm.Cond.laysFinal "GleanersForGaps" "GleanersForGaps" "keptStalks" "[[I") ∈ lw_all := lw_g (lw_at lw_m4 28 rfl) rfl
theorem q851 : (Jvm.Cond.soleField "GleanersForGaps" "keptStalks") ∈ lw_all := lw_g (lw_at lw_m4 29 rfl) rfl
theorem q852 : (Jvm.Cond.laysFinal "GleanersForGaps" "GleanersForGaps" "keptNight" "[I") ∈ lw_all := lw_g (lw_at lw_m4 30 rfl) rfl
theorem q853 : (Jvm.Cond.soleField "GleanersForGaps" "keptNight") ∈ lw_all := lw_g (lw_at lw_m4 31 rfl) rfl
theorem q854 : (Jvm.Cond.lays "GleanersForGaps" "GleanersForGaps" "bestDigits" "I") ∈ lw_all := lw_g (lw_at lw_m4 32 rfl) rfl
theorem q855 : (Jvm.Cond.soleField "GleanersForGaps" "bestDigits") ∈ lw_all := lw_g (lw_at lw_m4 33 rfl) rfl
theorem q856 : (Jvm.Cond.lays "GleanersForGaps" "GleanersForGaps" "bestWorth" "I") ∈ lw_all := lw_g (lw_at lw_m4 34 rfl) rfl
theorem q857 : (Jvm.Cond.soleField "GleanersForGaps" "bestWorth") ∈ lw_all := lw_g (lw_at lw_m4 35 rfl) rfl
theorem q858 : (Jvm.Cond.lays "GleanersForGaps" "GleanersForGaps" "isFound" "Z") ∈ lw_all := lw_g (lw_at lw_m4 36 rfl) rfl
theorem q859 : (Jvm.Cond.soleField "GleanersForGaps" "isFound") ∈ lw_all := lw_g (lw_at lw_m4 37 rfl) rfl
theorem q860 : (Jvm.Cond.lays "GleanersForGaps" "GleanersForGaps" "hasImage" "Z") ∈ lw_all := lw_g (lw_at lw_m4 38 rfl) rfl
theorem q861 : (Jvm.Cond.soleField "GleanersForGaps" "hasImage") ∈ lw_all := lw_g (lw_at lw_m4 39 rfl) rfl
theorem q862 : (Jvm.Cond.laysFinal "GleanersForGaps" "GleanersForGaps" "imageRows" "[[I") ∈ lw_all := lw_g (lw_at lw_m4 40 rfl) rfl
theorem q863 : (Jvm.Cond.soleField "GleanersForGaps" "imageRows") ∈ lw_all := lw_g (lw_at lw_m4 41 rfl) rfl
theorem q864 : (Jvm.Cond.laysFinal "GleanersForGaps" "GleanersForGaps" "imageFolk" "[[I") ∈ lw_all := lw_g (lw_at lw_m4 42 rfl) rfl
theorem q865 : (Jvm.Cond.soleField "GleanersForGaps" "imageFolk") ∈ lw_all := lw_g (lw_at lw_m4 43 rfl) rfl
theorem q866 : (Jvm.Cond.laysFinal "GleanersForGaps" "GleanersForGaps" "imageNumbers" "[I") ∈ lw_all := lw_g (lw_at lw_m4 44 rfl) rfl
theorem q867 : (Jvm.Cond.soleField "GleanersForGaps" "imageNumbers") ∈ lw_all := lw_g (lw_at lw_m4 45 rfl) rfl
theorem q868 : (Jvm.Cond.laysFinal "GleanersForGaps" "GleanersForGaps" "sheets" "[LGleanersForGaps$Sheet;") ∈ lw_all := lw_g (lw_at lw_m4 46 rfl) rfl
theorem q869 : (Jvm.Cond.soleField "GleanersForGaps" "sheets") ∈ lw_all := lw_g (lw_at lw_m4 47 rfl) rfl
theorem q870 : (Jvm.Cond.superclass "GleanersForGaps" "java/lang/Object") ∈ lw_all := lw_g (lw_at lw_m4 48 rfl) rfl
theorem q872 : (Jvm.Cond.instanceMethod ({ cls := "GleanersForGaps", name := "force", desc := "(I)I" } : Jvm.MethodName)) ∈ lw_all := lw_g (lw_at lw_m4 50 rfl) rfl
theorem q873 : (Jvm.Cond.selects "GleanersForGaps" ({ cls := "GleanersForGaps", name := "force", desc := "(I)I" } : Jvm.MethodName) ({ cls := "GleanersForGaps", name := "force", desc := "(I)I" } : Jvm.MethodName)) ∈ lw_all := lw_g (lw_at lw_m4 51 rfl) rfl
theorem q874 : (Jvm.Cond.code ({ cls := "GleanersForGaps", name := "force", desc := "(I)I" } : Jvm.MethodName) prog_1_method_43_code (3 : Nat) (Option.some Jvm.ClassFile.FieldType.int)) ∈ lw_all := lw_g (lw_at lw_m4 52 rfl) rfl
theorem q875 : (Jvm.Cond.methodLink "GleanersForGaps" (352 : Nat) ({ cls := "GleanersForGaps", name := "isText", desc := "(I)Z" } : Jvm.MethodName)) ∈ lw_all := lw_g (lw_at lw_m4 53 rfl) rfl
theorem q876 : (Jvm.Cond.privateMethod ({ cls := "GleanersForGaps", name := "isText", desc := "(I)Z" } : Jvm.MethodName)) ∈ lw_tbl := lw_at lw_m4 54 rfl
theorem q877 : (Jvm.Cond.instanceMethod ({ cls := "GleanersForGaps", name := "isText", desc := "(I)Z" } : Jvm.MethodName)) ∈ lw_all := lw_g (lw_at lw_m4 55 rfl) rfl
theorem q878 : (Jvm.Cond.code ({ cls := "GleanersForGaps", name := "isText", desc := "(I)Z" } : Jvm.MethodName) prog_1_method_41_code (2 : Nat) (Option.some Jvm.ClassFile.FieldType.boolean)) ∈ lw_all := lw_g (lw_at lw_m4 56 rfl) rfl
theorem q880 : (Jvm.Cond.instanceMethod ({ cls := "GleanersForGaps", name := "asks", desc := "(II)I" } : Jvm.MethodName)) ∈ lw_all := lw_g (lw_at lw_m4 58 rfl) rfl
theorem q881 : (Jvm.Cond.selects "GleanersForGaps" ({ cls := "GleanersForGaps", name := "asks", desc := "(II)I" } : Jvm.MethodName) ({ cls := "GleanersForGaps", name := "asks", desc := "(II)I" } : Jvm.MethodName)) ∈ lw_all := lw_g (lw_at lw_m4 59 rfl) rfl
theorem q882 : (Jvm.Cond.code ({ cls := "GleanersForGaps", name := "asks", desc := "(II)I" } : Jvm.MethodName) prog_1_method_49_code (3 : Nat) (Option.some Jvm.ClassFile.FieldType.int)) ∈ lw_all := lw_g (lw_at lw_m4 60 rfl) rfl
theorem q883 : (Jvm.Cond.methodLink "GleanersForGaps" (392 : Nat) ({ cls := "GleanersForGaps", name := "takingOf", desc := "(IIII)I" } : Jvm.MethodName)) ∈ lw_all := lw_g (lw_at lw_m4 61 rfl) rfl
theorem q884 : (Jvm.Cond.privateMethod ({ cls := "GleanersForGaps", name := "takingOf", desc := "(IIII)I" } : Jvm.MethodName)) ∈ lw_tbl := lw_at lw_m4 62 rfl
theorem q885 : (Jvm.Cond.instanceMethod ({ cls := "GleanersForGaps", name := "takingOf", desc := "(IIII)I" } : Jvm.MethodName)) ∈ lw_all := lw_g (lw_at lw_m4 63 rfl) rfl
theorem q886 : (Jvm.Cond.code ({ cls := "GleanersForGaps", name := "takingOf", desc := "(IIII)I" } : Jvm.MethodName) prog_1_method_46_code (5 : Nat) (Option.some Jvm.ClassFile.FieldType.int)) ∈ lw_all := lw_g (lw_at lw_m4 64 rfl) rfl
theorem q887 : (Jvm.Cond.methodLink "GleanersForGaps" (387 : Nat) ({ cls := "GleanersForGaps$Gleaner", name := "taking", desc := "(II)I" } : Jvm.MethodName)) ∈ lw_all := lw_g (lw_at lw_m4 65 rfl) rfl
theorem q923 : (Jvm.Cond.instanceMethod ({ cls := "GleanersForGaps", name := "glean", desc := "(II)I" } : Jvm.MethodName)) ∈ lw_all := lw_g (lw_at lw_m4 101 rfl) rfl
theorem q924 : (Jvm.Cond.selects "GleanersForGaps" ({ cls := "GleanersForGaps", name := "glean", desc := "(II)I" } : Jvm.MethodName) ({ cls := "GleanersForGaps", name := "glean", desc := "(II)I" } : Jvm.MethodName)) ∈ lw_all := lw_g (lw_at lw_m4 102 rfl) rfl
theorem q925 : (Jvm.Cond.code ({ cls := "GleanersForGaps", name := "glean", desc := "(II)I" } : Jvm.MethodName) prog_1_method_53_code (3 : Nat) (Option.some Jvm.ClassFile.FieldType.int)) ∈ lw_all := lw_g (lw_at lw_m4 103 rfl) rfl
theorem q926 : (Jvm.Cond.methodLink "GleanersForGaps" (405 : Nat) ({ cls := "GleanersForGaps", name := "gleans", desc := "(II)I" } : Jvm.MethodName)) ∈ lw_all := lw_g (lw_at lw_m4 104 rfl) rfl
theorem q927 : (Jvm.Cond.privateMethod ({ cls := "GleanersForGaps", name := "gleans", desc := "(II)I" } : Jvm.MethodName)) ∈ lw_tbl := lw_at lw_m4 105 rfl
theorem q928 : (Jvm.Cond.instanceMethod ({ cls := "GleanersForGaps", name := "gleans", desc := "(II)I" } : Jvm.MethodName)) ∈ lw_all := lw_g (lw_at lw_m4 106 rfl) rfl
theorem q929 : (Jvm.Cond.code ({ cls := "GleanersForGaps", name := "gleans", desc := "(II)I" } : Jvm.MethodName) prog_1_method_52_code (8 : Nat) (Option.some Jvm.ClassFile.FieldType.int)) ∈ lw_all := lw_g (lw_at lw_m4 107 rfl) rfl
theorem q930 : (Jvm.Cond.methodLink "GleanersForGaps" (398 : Nat) ({ cls := "GleanersForGaps", name := "takesRun", desc := "(IIIII)I" } : Jvm.MethodName)) ∈ lw_all := lw_g (lw_at lw_m4 108 rfl) rfl
theorem q931 : (Jvm.Cond.privateMethod ({ cls := "GleanersForGaps", name := "takesRun", desc := "(IIIII)I" } : Jvm.MethodName)) ∈ lw_tbl := lw_at lw_m4 109 rfl
theorem q932 : (Jvm.Cond.instanceMethod ({ cls := "GleanersForGaps", name := "takesRun", desc := "(IIIII)I" } : Jvm.MethodName)) ∈ lw_all := lw_g (lw_at lw_m4 110 rfl) rfl
theorem q933 : (Jvm.Cond.code ({ cls := "GleanersForGaps", name := "takesRun", desc := "(IIIII)I" } : Jvm.MethodName) prog_1_method_51_code (8 : Nat) (Option.some Jvm.ClassFile.FieldType.int)) ∈ lw_all := lw_g (lw_at lw_m4 111 rfl) rfl
theorem q934 : (Jvm.Cond.methodLink "GleanersForGaps" (395 : Nat) ({ cls := "GleanersForGaps", name := "closes", desc := "(III)V" } : Jvm.MethodName)) ∈ lw_all := lw_g (lw_at lw_m4 112 rfl) rfl
theorem q935 : (Jvm.Cond.privateMethod ({ cls := "GleanersForGaps", name := "closes", desc := "(III)V" } : Jvm.MethodName)) ∈ lw_tbl := lw_at lw_m4 113 rfl
theorem q936 : (Jvm.Cond.instanceMethod ({ cls := "GleanersForGaps", name := "closes", desc := "(III)V" } : Jvm.MethodName)) ∈ lw_all := lw_g (lw_at lw_m4 114 rfl) rfl
theorem q937 : (Jvm.Cond.code ({ cls := "GleanersForGaps", name := "closes", desc := "(III)V" } : Jvm.MethodName) prog_1_method_50_code (6 : Nat) (Option.none : Option Jvm.ClassFile.FieldType)) ∈ lw_all := lw_g (lw_at lw_m4 115 rfl) rfl
theorem q939 : (Jvm.Cond.instanceMethod ({ cls := "GleanersForGaps", name := "go", desc := "(II)I" } : Jvm.MethodName)) ∈ lw_all := lw_g (lw_at lw_m4 117 rfl) rfl
theorem q940 : (Jvm.Cond.selects "GleanersForGaps" ({ cls := "GleanersForGaps", name := "go", desc := "(II)I" } : Jvm.MethodName) ({ cls := "GleanersForGaps", name := "go", desc := "(II)I" } : Jvm.MethodName)) ∈ lw_all := lw_g (lw_at lw_m4 118 rfl) rfl
theorem q941 : (Jvm.Cond.code ({ cls := "GleanersForGaps", name := "go", desc := "(II)I" } : Jvm.MethodName) prog_1_method_55_code (5 : Nat) (Option.some Jvm.ClassFile.FieldType.int)) ∈ lw_all := lw_g (lw_at lw_m4 119 rfl) rfl
theorem q942 : (Jvm.Cond.methodLink "GleanersForGaps" (408 : Nat) ({ cls := "GleanersForGaps", name := "isOrder", desc := "(I)Z" } : Jvm.MethodName)) ∈ lw_all := lw_g (lw_at lw_m4 120 rfl) rfl
theorem q943 : (Jvm.Cond.privateMethod ({ cls := "GleanersForGaps", name := "isOrder", desc := "(I)Z" } : Jvm.MethodName)) ∈ lw_tbl := lw_at lw_m4 121 rfl
theorem q944 : (Jvm.Cond.instanceMethod ({ cls := "GleanersForGaps", name := "isOrder", desc := "(I)Z" } : Jvm.MethodName)) ∈ lw_all := lw_g (lw_at lw_m4 122 rfl) rfl
theorem q945 : (Jvm.Cond.code ({ cls := "GleanersForGaps", name := "isOrder", desc := "(I)Z" } : Jvm.MethodName) prog_1_method_54_code (6 : Nat) (Option.some Jvm.ClassFile.FieldType.boolean)) ∈ lw_all := lw_g (lw_at lw_m4 123 rfl) rfl
theorem q947 : (Jvm.Cond.instanceMethod ({ cls := "GleanersForGaps", name := "night", desc := "()I" } : Jvm.MethodName)) ∈ lw_all := lw_g (lw_at lw_m4 125 rfl) rfl
theorem q948 : (Jvm.Cond.selects "GleanersForGaps" ({ cls := "GleanersForGaps", name := "night", desc := "()I" } : Jvm.MethodName) ({ cls := "GleanersForGaps", name := "night", desc := "()I" } : Jvm.MethodName)) ∈ lw_all := lw_g (lw_at lw_m4 126 rfl) rfl
theorem q949 : (Jvm.Cond.code ({ cls := "GleanersForGaps", name := "night", desc := "()I" } : Jvm.MethodName) prog_1_method_58_code (1 : Nat) (Option.some Jvm.ClassFile.FieldType.int)) ∈ lw_all := lw_g (lw_at lw_m4 127 rfl) rfl
theorem q950 : (Jvm.Cond.methodLink "GleanersForGaps" (411 : Nat) ({ cls := "GleanersForGaps", name := "passes", desc := "()V" } : Jvm.MethodName)) ∈ lw_all := lw_g (lw_at lw_m4 128 rfl) rfl
theorem q951 : (Jvm.Cond.privateMethod ({ cls := "GleanersForGaps", name := "passes", desc := "()V" } : Jvm.MethodName)) ∈ lw_tbl := lw_at lw_m4 129 rfl
theorem q952 : (Jvm.Cond.instanceMethod ({ cls := "GleanersForGaps", name := "passes", desc := "()V" } : Jvm.MethodName)) ∈ lw_all := lw_g (lw_at lw_m4 130 rfl) rfl
theorem q953 : (Jvm.Cond.code ({ cls := "GleanersForGaps", name := "passes", desc := "()V" } : Jvm.MethodName) prog_1_method_56_code (2 : Nat) (Option.none : Option Jvm.ClassFile.FieldType)) ∈ lw_all := lw_g (lw_at lw_m4 131 rfl) rfl
theorem q954 : (Jvm.Cond.methodLink "GleanersForGaps" (414 : Nat) ({ cls := "GleanersForGaps", name := "gapsAll", desc := "()I" } : Jvm.MethodName)) ∈ lw_all := lw_g (lw_at lw_m4 132 rfl) rfl
theorem q955 : (Jvm.Cond.privateMethod ({ cls := "GleanersForGaps", name := "gapsAll", desc := "()I" } : Jvm.MethodName)) ∈ lw_tbl := lw_at lw_m4 133 rfl
theorem q956 : (Jvm.Cond.instanceMethod ({ cls := "GleanersForGaps", name := "gapsAll", desc := "()I" } : Jvm.MethodName)) ∈ lw_all := lw_g (lw_at lw_m4 134 rfl) rfl
theorem q957 : (Jvm.Cond.code ({ cls := "GleanersForGaps", name := "gapsAll", desc := "()I" } : Jvm.MethodName) prog_1_method_57_code (3 : Nat) (Option.some Jvm.ClassFile.FieldType.int)) ∈ lw_all := lw_g (lw_at lw_m4 135 rfl) rfl
theorem q959 : (Jvm.Cond.instanceMethod ({ cls := "GleanersForGaps", name := "tries", desc := "(III)I" } : Jvm.MethodName)) ∈ lw_all := lw_g (lw_at lw_m4 137 rfl) rfl
theorem q960 : (Jvm.Cond.selects "GleanersForGaps" ({ cls := "GleanersForGaps", name := "tries", desc := "(III)I" } : Jvm.MethodName) ({ cls := "GleanersForGaps", name := "tries", desc := "(III)I" } : Jvm.MethodName)) ∈ lw_all := lw_g (lw_at lw_m4 138 rfl) rfl
theorem q961 : (Jvm.Cond.code ({ cls := "GleanersForGaps", name := "tries", desc := "(III)I" } : Jvm.MethodName) prog_1_method_62_code (4 : Nat) (Option.some Jvm.ClassFile.FieldType.int)) ∈ lw_all := lw_g (lw_at lw_m4 139 rfl) rfl
theorem q962 : (Jvm.Cond.methodLink "GleanersForGaps" (428 : Nat) ({ cls := "GleanersForGaps", name := "triesOf", desc := "(III)I" } : Jvm.MethodName)) ∈ lw_all := lw_g (lw_at lw_m4 140 rfl) rfl
theorem q963 : (Jvm.Cond.privateMethod ({ cls := "GleanersForGaps", name := "triesOf", desc := "(III)I" } : Jvm.MethodName)) ∈ lw_tbl := lw_at lw_m4 141 rfl
theorem q964 : (Jvm.Cond.instanceMethod ({ cls := "GleanersForGaps", name := "triesOf", desc := "(III)I" } : Jvm.MethodName)) ∈ lw_all := lw_g (lw_at lw_m4 142 rfl) rfl
theorem q965 : (Jvm.Cond.codeWith ({ cls := "GleanersForGaps", name := "triesOf", desc := "(III)I" } : Jvm.MethodName) prog_1_method_61_code (7 : Nat) (Option.some Jvm.ClassFile.FieldType.int) [((5 : Nat), (59 : Nat), (67 : Nat), (0 : Nat)), ((67 : Nat), (69 : Nat), (67 : Nat), (0 : Nat))]) ∈ lw_all := lw_g (lw_at lw_m4 143 rfl) rfl
theorem q966 : (Jvm.Cond.methodLink "GleanersForGaps" (423 : Nat) ({ cls := "GleanersForGaps", name := "keeps", desc := "(I)V" } : Jvm.MethodName)) ∈ lw_all := lw_g (lw_at lw_m4 144 rfl) rfl
theorem q967 : (Jvm.Cond.privateMethod ({ cls := "GleanersForGaps", name := "keeps", desc := "(I)V" } : Jvm.MethodName)) ∈ lw_tbl := lw_at lw_m4 145 rfl
theorem q968 : (Jvm.Cond.instanceMethod ({ cls := "GleanersForGaps", name := "keeps", desc := "(I)V" } : Jvm.MethodName)) ∈ lw_all := lw_g (lw_at lw_m4 146 rfl) rfl
theorem q969 : (Jvm.Cond.code ({ cls := "GleanersForGaps", name := "keeps", desc := "(I)V" } : Jvm.MethodName) prog_1_method_59_code (3 : Nat) (Option.none : Option Jvm.ClassFile.FieldType)) ∈ lw_all := lw_g (lw_at lw_m4 147 rfl) rfl
theorem q970 : (Jvm.Cond.methodLink "GleanersForGaps" (417 : Nat) ({ cls := "java/lang/System", name := "arraycopy", desc := "(Ljava/lang/Object;ILjava/lang/Object;II)V" } : Jvm.MethodName)) ∈ lw_all := lw_g (lw_at lw_m4 148 rfl) rfl
theorem q973 : (Jvm.Cond.methodLink "GleanersForGaps" (425 : Nat) ({ cls := "GleanersForGaps", name := "laysBack", desc := "(I)V" } : Jvm.MethodName)) ∈ lw_all := lw_g (lw_at lw_m4 151 rfl) rfl
theorem q974 : (Jvm.Cond.privateMethod ({ cls := "GleanersForGaps", name := "laysBack", desc := "(I)V" } : Jvm.MethodName)) ∈ lw_tbl := lw_at lw_m4 152 rfl
theorem q975 : (Jvm.Cond.instanceMethod ({ cls := "GleanersForGaps", name := "laysBack", desc := "(I)V" } : Jvm.MethodName)) ∈ lw_all := lw_g (lw_at lw_m4 153 rfl) rfl
theorem q976 : (Jvm.Cond.code ({ cls := "GleanersForGaps", name := "laysBack", desc := "(I)V" } : Jvm.MethodName) prog_1_method_60_code (3 : Nat) (Option.none : Option Jvm.ClassFile.FieldType)) ∈ lw_all := lw_g (lw_at lw_m4 154 rfl) rfl
theorem q978 : (Jvm.Cond.instanceMethod ({ cls := "GleanersForGaps", name := "nights", desc := "(IIII)I" } : Jvm.MethodName)) ∈ lw_all := lw_g (lw_at lw_m4 156 rfl) rfl
theorem q979 : (Jvm.Cond.selects "GleanersForGaps" ({ cls := "GleanersForGaps", name := "nights", desc := "(IIII)I" } : Jvm.MethodName) ({ cls := "GleanersForGaps", name := "nights", desc := "(IIII)I" } : Jvm.MethodName)) ∈ lw_all := lw_g (lw_at lw_m4 157 rfl) rfl
theorem q980 : (Jvm.Cond.codeWith ({ cls := "GleanersForGaps", name := "nights", desc := "(IIII)I" } : Jvm.MethodName) prog_1_method_64_code (7 : Nat) (Option.some Jvm.ClassFile.FieldType.int) [((46 : Nat), (94 : Nat), (102 : Nat), (0 : Nat)), ((102 : Nat), (104 : Nat), (102 : Nat), (0 : Nat))]) ∈ lw_all := lw_g (lw_at lw_m4 158 rfl) rfl
theorem q981 : (Jvm.Cond.constantLong "GleanersForGaps" (431 : Nat) (20 : Int64)) ∈ lw_all := lw_g (lw_at lw_m4 159 rfl) rfl
theorem q982 : (Jvm.Cond.methodLink "GleanersForGaps" (433 : Nat) ({ cls := "GleanersForGaps", name := "allGlean", desc := "(I)V" } : Jvm.MethodName)) ∈ lw_all := lw_g (lw_at lw_m4 160 rfl) rfl
theorem q983 : (Jvm.Cond.privateMethod ({ cls := "GleanersForGaps", name := "allGlean", desc := "(I)V" } : Jvm.MethodName)) ∈ lw_tbl := lw_at lw_m4 161 rfl
theorem q984 : (Jvm.Cond.instanceMethod ({ cls := "GleanersForGaps", name := "allGlean", desc := "(I)V" } : Jvm.MethodName)) ∈ lw_all := lw_g (lw_at lw_m4 162 rfl) rfl
theorem q985 : (Jvm.Cond.code ({ cls := "GleanersForGaps", name := "allGlean", desc := "(I)V" } : Jvm.MethodName) prog_1_method_63_code (3 : Nat) (Option.none : Option Jvm.ClassFile.FieldType)) ∈ lw_all := lw_g (lw_at lw_m4 163 rfl) rfl
theorem q987 : (Jvm.Cond.instanceMethod ({ cls := "GleanersForGaps", name := "first", desc := "(III)I" } : Jvm.MethodName)) ∈ lw_all := lw_g (lw_at lw_m4 165 rfl) rfl
theorem q988 : (Jvm.Cond.selects "GleanersForGaps" ({ cls := "GleanersForGaps", name := "first", desc := "(III)I" } : Jvm.MethodName) ({ cls := "GleanersForGaps", name := "first", desc := "(III)I" } : Jvm.MethodName)) ∈ lw_all := lw_g (lw_at lw_m4 166 rfl) rfl
theorem q989 : (Jvm.Cond.code ({ cls := "GleanersForGaps", name := "first", desc := "(III)I" } : Jvm.MethodName) prog_1_method_67_code (4 : Nat) (Option.some Jvm.ClassFile.FieldType.int)) ∈ lw_all := lw_g (lw_at lw_m4 167 rfl) rfl
theorem q990 : (Jvm.Cond.methodLink "GleanersForGaps" (450 : Nat) ({ cls := "GleanersForGaps", name := "goesThrough", desc := "(II)V" } : Jvm.MethodName)) ∈ lw_all := lw_g (lw_at lw_m4 168 rfl) rfl
theorem q991 : (Jvm.Cond.privateMethod ({ cls := "GleanersForGaps", name := "goesThrough", desc := "(II)V" } : Jvm.MethodName)) ∈ lw_tbl := lw_at lw_m4 169 rfl
theorem q992 : (Jvm.Cond.instanceMethod ({ cls := "GleanersForGaps", name := "goesThrough", desc := "(II)V" } : Jvm.MethodName)) ∈ lw_all := lw_g (lw_at lw_m4 170 rfl) rfl
theorem q993 : (Jvm.Cond.code ({ cls := "GleanersForGaps", name := "goesThrough", desc := "(II)V" } : Jvm.MethodName) prog_1_method_66_code (3 : Nat) (Option.none : Option Jvm.ClassFile.FieldType)) ∈ lw_all := lw_g (lw_at lw_m4 171 rfl) rfl
theorem q994 : (Jvm.Cond.methodLink "GleanersForGaps" (446 : Nat) ({ cls := "GleanersForGaps", name := "orders", desc := "(IIIIII)V" } : Jvm.MethodName)) ∈ lw_all := lw_g (lw_at lw_m4 172 rfl) rfl
theorem q995 : (Jvm.Cond.privateMethod ({ cls := "GleanersForGaps", name := "orders", desc := "(IIIIII)V" } : Jvm.MethodName)) ∈ lw_tbl := lw_at lw_m4 173 rfl
theorem q996 : (Jvm.Cond.instanceMethod ({ cls := "GleanersForGaps", name := "orders", desc := "(IIIIII)V" } : Jvm.MethodName)) ∈ lw_all := lw_g (lw_at lw_m4 174 rfl) rfl
theorem q997 : (Jvm.Cond.code ({ cls := "GleanersForGaps", name := "orders", desc := "(IIIIII)V" } : Jvm.MethodName) prog_1_method_65_code (9 : Nat) (Option.none : Option Jvm.ClassFile.FieldType)) ∈ lw_all := lw_g (lw_at lw_m4 175 rfl) rfl
theorem q999 : (Jvm.Cond.instanceMethod ({ cls := "GleanersForGaps", name := "best", desc := "(II)I" } : Jvm.MethodName)) ∈ lw_all := lw_g (lw_at lw_m4 177 rfl) rfl
theorem q1000 : (Jvm.Cond.selects "GleanersForGaps" ({ cls := "GleanersForGaps", name := "best", desc := "(II)I" } : Jvm.MethodName) ({ cls := "GleanersForGaps", name := "best", desc := "(II)I" } : Jvm.MethodName)) ∈ lw_all := lw_g (lw_at lw_m4 178 rfl) rfl
theorem q1001 : (Jvm.Cond.code ({ cls := "GleanersForGaps", name := "best", desc := "(II)I" } : Jvm.MethodName) prog_1_method_70_code (3 : Nat) (Option.some Jvm.ClassFile.FieldType.int)) ∈ lw_all := lw_g (lw_at lw_m4 179 rfl) rfl
theorem q1002 : (Jvm.Cond.methodLink "GleanersForGaps" (454 : Nat) ({ cls := "GleanersForGaps", name := "alone", desc := "(IZ)I" } : Jvm.MethodName)) ∈ lw_all := lw_g (lw_at lw_m4 180 rfl) rfl
theorem q1003 : (Jvm.Cond.privateMethod ({ cls := "GleanersForGaps", name := "alone", desc := "(IZ)I" } : Jvm.MethodName)) ∈ lw_tbl := lw_at lw_m4 181 rfl
theorem q1004 : (Jvm.Cond.instanceMethod ({ cls := "GleanersForGaps", name := "alone", desc := "(IZ)I" } : Jvm.MethodName)) ∈ lw_all := lw_g (lw_at lw_m4 182 rfl) rfl
theorem q1005 : (Jvm.Cond.code ({ cls := "GleanersForGaps", name := "alone", desc := "(IZ)I" } : Jvm.MethodName) prog_1_method_68_code (8 : Nat) (Option.some Jvm.ClassFile.FieldType.int)) ∈ lw_all := lw_g (lw_at lw_m4 183 rfl) rfl
theorem q1006 : (Jvm.Cond.methodLink "GleanersForGaps" (458 : Nat) ({ cls := "GleanersForGaps", name := "bare", desc := "(I)I" } : Jvm.MethodName)) ∈ lw_all := lw_g (lw_at lw_m4 184 rfl) rfl
theorem q1007 : (Jvm.Cond.privateMethod ({ cls := "GleanersForGaps", name := "bare", desc := "(I)I" } : Jvm.MethodName)) ∈ lw_tbl := lw_at lw_m4 185 rfl
theorem q1008 : (Jvm.Cond.instanceMethod ({ cls := "GleanersForGaps", name := "bare", desc := "(I)I" } : Jvm.MethodName)) ∈ lw_all := lw_g (lw_at lw_m4 186 rfl) rfl
theorem q1009 : (Jvm.Cond.codeWith ({ cls := "GleanersForGaps", name := "bare", desc := "(I)I" } : Jvm.MethodName) prog_1_method_69_code (5 : Nat) (Option.some Jvm.ClassFile.FieldType.int) [((5 : Nat), (23 : Nat), (54 : Nat), (0 : Nat)), ((30 : Nat), (47 : Nat), (54 : Nat), (0 : Nat)), ((54 : Nat), (56 : Nat), (54 : Nat), (0 : Nat))]) ∈ lw_all := lw_g (lw_at lw_m4 187 rfl) rfl
theorem q1011 : (Jvm.Cond.instanceMethod ({ cls := "GleanersForGaps", name := "rowFor", desc := "(II)I" } : Jvm.MethodName)) ∈ lw_all := lw_g (lw_at lw_m4 189 rfl) rfl
theorem q1012 : (Jvm.Cond.selects "GleanersForGaps" ({ cls := "GleanersForGaps", name := "rowFor", desc := "(II)I" } : Jvm.MethodName) ({ cls := "GleanersForGaps", name := "rowFor", desc := "(II)I" } : Jvm.MethodName)) ∈ lw_all := lw_g (lw_at lw_m4 190 rfl) rfl
theorem q1013 : (Jvm.Cond.code ({ cls := "GleanersForGaps", name := "rowFor", desc := "(II)I" } : Jvm.MethodName) prog_1_method_71_code (7 : Nat) (Option.some Jvm.ClassFile.FieldType.int)) ∈ lw_all := lw_g (lw_at lw_m4 191 rfl) rfl
theorem q1015 : (Jvm.Cond.instanceMethod ({ cls := "GleanersForGaps", name := "longest", desc := "()I" } : Jvm.MethodName)) ∈ lw_all := lw_g (lw_at lw_m4 193 rfl) rfl
theorem q1016 : (Jvm.Cond.selects "GleanersForGaps" ({ cls := "GleanersForGaps", name := "longest", desc := "()I" } : Jvm.MethodName) ({ cls := "GleanersForGaps", name := "longest", desc := "()I" } : Jvm.MethodName)) ∈ lw_all := lw_g (lw_at lw_m4 194 rfl) rfl
theorem q1017 : (Jvm.Cond.code ({ cls := "GleanersForGaps", name := "longest", desc := "()I" } : Jvm.MethodName) prog_1_method_72_code (6 : Nat) (Option.some Jvm.ClassFile.FieldType.int)) ∈ lw_all := lw_g (lw_at lw_m4 195 rfl) rfl
theorem q1019 : (Jvm.Cond.instanceMethod ({ cls := "GleanersForGaps", name := "close", desc := "(I)J" } : Jvm.MethodName)) ∈ lw_all := lw_g (lw_at lw_m4 197 rfl) rfl
theorem q1020 : (Jvm.Cond.selects "GleanersForGaps" ({ cls := "GleanersForGaps", name := "close", desc := "(I)J" } : Jvm.MethodName) ({ cls := "GleanersForGaps", name := "close", desc := "(I)J" } : Jvm.MethodName)) ∈ lw_all := lw_g (lw_at lw_m4 198 rfl) rfl
theorem q1021 : (Jvm.Cond.code ({ cls := "GleanersForGaps", name := "close", desc := "(I)J" } : Jvm.MethodName) prog_1_method_74_code (5 : Nat) (Option.some Jvm.ClassFile.FieldType.long)) ∈ lw_all := lw_g (lw_at lw_m4 199 rfl) rfl
theorem q1022 : (Jvm.Cond.constantLong "GleanersForGaps" (461 : Nat) (-4611686018427387904 : Int64)) ∈ lw_all := lw_g (lw_at lw_m4 200 rfl) rfl
theorem q1023 : (Jvm.Cond.methodLink "GleanersForGaps" (463 : Nat) ({ cls := "GleanersForGaps", name := "lowest", desc := "(JJI)J" } : Jvm.MethodName)) ∈ lw_all := lw_g (lw_at lw_m4 201 rfl) rfl
theorem q1024 : (Jvm.Cond.static ({ cls := "GleanersForGaps", name := "lowest", desc := "(JJI)J" } : Jvm.MethodName)) ∈ lw_all := lw_g (lw_at lw_m4 202 rfl) rfl
theorem q1025 : (Jvm.Cond.code ({ cls := "GleanersForGaps", name := "lowest", desc := "(JJI)J" } : Jvm.MethodName) prog_1_method_73_code (11 : Nat) (Option.some Jvm.ClassFile.FieldType.long)) ∈ lw_all := lw_g (lw_at lw_m4 203 rfl) rfl
theorem q1027 : (Jvm.Cond.instanceMethod ({ cls := "GleanersForGaps", name := "tells", desc := "(IIII)I" } : Jvm.MethodName)) ∈ lw_all := lw_g (lw_at lw_m4 205 rfl) rfl
theorem q1028 : (Jvm.Cond.selects "GleanersForGaps" ({ cls := "GleanersForGaps", name := "tells", desc := "(IIII)I" } : Jvm.MethodName) ({ cls := "GleanersForGaps", name := "tells", desc := "(IIII)I" } : Jvm.MethodName)) ∈ lw_all := lw_g (lw_at lw_m4 206 rfl) rfl
theorem q1029 : (Jvm.Cond.code ({ cls := "GleanersForGaps", name := "tells", desc := "(IIII)I" } : Jvm.MethodName) prog_1_method_84_code (6 : Nat) (Option.some Jvm.ClassFile.FieldType.int)) ∈ lw_all := lw_g (lw_at lw_m4 207 rfl) rfl
theorem q1030 : (Jvm.Cond.methodLink "GleanersForGaps" (494 : Nat) ({ cls := "GleanersForGaps", name := "isSheet", desc := "(I)Z" } : Jvm.MethodName)) ∈ lw_all := lw_g (lw_at lw_m4 208 rfl) rfl
theorem q1031 : (Jvm.Cond.static ({ cls := "GleanersForGaps", name := "isSheet", desc := "(I)Z" } : Jvm.MethodName)) ∈ lw_all := lw_g (lw_at lw_m4 209 rfl) rfl
theorem q1032 : (Jvm.Cond.code ({ cls := "GleanersForGaps", name := "isSheet", desc := "(I)Z" } : Jvm.MethodName) prog_1_method_92_code (1 : Nat) (Option.some Jvm.ClassFile.FieldType.boolean)) ∈ lw_all := lw_g (lw_at lw_m4 210 rfl) rfl
theorem q1033 : (Jvm.Cond.constantLong "GleanersForGaps" (497 : Nat) (7 : Int64)) ∈ lw_all := lw_g (lw_at lw_m4 211 rfl) rfl
theorem q1034 : (Jvm.Cond.methodLink "GleanersForGaps" (467 : Nat) ({ cls := "GleanersForGaps", name := "sortOf", desc := "(Ljava/lang/Object;)I" } : Jvm.MethodName)) ∈ lw_all := lw_g (lw_at lw_m4 212 rfl) rfl
theorem q1035 : (Jvm.Cond.static ({ cls := "GleanersForGaps", name := "sortOf", desc := "(Ljava/lang/Object;)I" } : Jvm.MethodName)) ∈ lw_all := lw_g (lw_at lw_m4 213 rfl) rfl
theorem q1036 : (Jvm.Cond.code ({ cls := "GleanersForGaps", name := "sortOf", desc := "(Ljava/lang/Object;)I" } : Jvm.MethodName) prog_1_method_100_code (1 : Nat) (Option.some Jvm.ClassFile.FieldType.int)) ∈ lw_all := lw_g (lw_at lw_m4 214 rfl) rfl
theorem q1037 : (Jvm.Cond.classLink "GleanersForGaps" (544 : Nat) "[B") ∈ lw_all := lw_g (lw_at lw_m4 215 rfl) rfl
theorem q1038 : (Jvm.Cond.classLink "GleanersForGaps" (548 : Nat) "[S") ∈ lw_all := lw_g (lw_at lw_m4 216 rfl) rfl
theorem q1039 : (Jvm.Cond.methodLink "GleanersForGaps" (471 : Nat) ({ cls := "GleanersForGaps", name := "lengthOf", desc := "(Ljava/lang/Object;I)I" } : Jvm.MethodName)) ∈ lw_all := lw_g (lw_at lw_m4 217 rfl) rfl
theorem q1040 : (Jvm.Cond.static ({ cls := "GleanersForGaps", name := "lengthOf", desc := "(Ljava/lang/Object;I)I" } : Jvm.MethodName)) ∈ lw_all := lw_g (lw_at lw_m4 218 rfl) rfl
theorem q1041 : (Jvm.Cond.code ({ cls := "GleanersForGaps", name := "lengthOf", desc := "(Ljava/lang/Object;I)I" } : Jvm.MethodName) prog_1_method_98_code (2 : Nat) (Option.some Jvm.ClassFile.FieldType.int)) ∈ lw_all := lw_g (lw_at lw_m4 219 rfl) rfl
theorem q1042 : (Jvm.Cond.classLink "GleanersForGaps" (550 : Nat) "[I") ∈ lw_all := lw_g (lw_at lw_m4 220 rfl) rfl
theorem q1043 : (Jvm.Cond.methodLink "GleanersForGaps" (483 : Nat) ({ cls := "GleanersForGaps", name := "otherwise", desc := "(Ljava/lang/Object;II)I" } : Jvm.MethodName)) ∈ lw_all := lw_g (lw_at lw_m4 221 rfl) rfl
theorem q1044 : (Jvm.Cond.privateMethod ({ cls := "GleanersForGaps", name := "otherwise", desc := "(Ljava/lang/Object;II)I" } : Jvm.MethodName)) ∈ lw_tbl := lw_at lw_m4 222 rfl
theorem q1045 : (Jvm.Cond.instanceMethod ({ cls := "GleanersForGaps", name := "otherwise", desc := "(Ljava/lang/Object;II)I" } : Jvm.MethodName)) ∈ lw_all := lw_g (lw_at lw_m4 223 rfl) rfl
theorem q1046 : (Jvm.Cond.codeWith ({ cls := "GleanersForGaps", name := "otherwise", desc := "(Ljava/lang/Object;II)I" } : Jvm.MethodName) prog_1_method_75_code (7 : Nat) (Option.some Jvm.ClassFile.FieldType.int) [((5 : Nat), (52 : Nat), (77 : Nat), (0 : Nat)), ((60 : Nat), (69 : Nat), (77 : Nat), (0 : Nat)), ((77 : Nat), (79 : Nat), (77 : Nat), (0 : Nat))]) ∈ lw_all := lw_g (lw_at lw_m4 224 rfl) rfl
theorem q1047 : (Jvm.Cond.methodLink "GleanersForGaps" (475 : Nat) ({ cls := "GleanersForGaps", name := "item", desc := "(Ljava/lang/Object;II)I" } : Jvm.MethodName)) ∈ lw_all := lw_g (lw_at lw_m4 225 rfl) rfl
theorem q1048 : (Jvm.Cond.static ({ cls := "GleanersForGaps", name := "item", desc := "(Ljava/lang/Object;II)I" } : Jvm.MethodName)) ∈ lw_all := lw_g (lw_at lw_m4 226 rfl) rfl
theorem q1049 : (Jvm.Cond.code ({ cls := "GleanersForGaps", name := "item", desc := "(Ljava/lang/Object;II)I" } : Jvm.MethodName) prog_1_method_97_code (3 : Nat) (Option.some Jvm.ClassFile.FieldType.int)) ∈ lw_all := lw_g (lw_at lw_m4 227 rfl) rfl
theorem q1050 : (Jvm.Cond.methodLink "GleanersForGaps" (545 : Nat) ({ cls := "GleanersForGaps", name := "asksPlace", desc := "(II)V" } : Jvm.MethodName)) ∈ lw_all := lw_g (lw_at lw_m4 228 rfl) rfl
theorem q1051 : (Jvm.Cond.static ({ cls := "GleanersForGaps", name := "asksPlace", desc := "(II)V" } : Jvm.MethodName)) ∈ lw_all := lw_g (lw_at lw_m4 229 rfl) rfl
theorem q1052 : (Jvm.Cond.code ({ cls := "GleanersForGaps", name := "asksPlace", desc := "(II)V" } : Jvm.MethodName) prog_1_method_99_code (2 : Nat) (Option.none : Option Jvm.ClassFile.FieldType)) ∈ lw_all := lw_g (lw_at lw_m4 230 rfl) rfl
theorem q1053 : (Jvm.Cond.classLink "GleanersForGaps" (556 : Nat) "java/lang/IndexOutOfBoundsException") ∈ lw_all := lw_g (lw_at lw_m4 231 rfl) rfl
theorem q1062 : (Jvm.Cond.methodLink "GleanersForGaps" (558 : Nat) ({ cls := "java/lang/IndexOutOfBoundsException", name := "<init>", desc := "()V" } : Jvm.MethodName)) ∈ lw_all := lw_g (lw_at lw_m5 0 rfl) rfl
theorem q1074 : (Jvm.Cond.methodLink "GleanersForGaps" (502 : Nat) ({ cls := "GleanersForGaps", name := "kindsOf", desc := "(Ljava/lang/Object;II)I" } : Jvm.MethodName)) ∈ lw_all := lw_g (lw_at lw_m5 12 rfl) rfl
theorem q1075 : (Jvm.Cond.privateMethod ({ cls := "GleanersForGaps", name := "kindsOf", desc := "(Ljava/lang/Object;II)I" } : Jvm.MethodName)) ∈ lw_tbl := lw_at lw_m5 13 rfl
theorem q1076 : (Jvm.Cond.instanceMethod ({ cls := "GleanersForGaps", name := "kindsOf", desc := "(Ljava/lang/Object;II)I" } : Jvm.MethodName)) ∈ lw_all := lw_g (lw_at lw_m5 14 rfl) rfl
theorem q1077 : (Jvm.Cond.code ({ cls := "GleanersForGaps", name := "kindsOf", desc := "(Ljava/lang/Object;II)I" } : Jvm.MethodName) prog_1_method_77_code (6 : Nat) (Option.some Jvm.ClassFile.FieldType.int)) ∈ lw_all := lw_g (lw_at lw_m5 15 rfl) rfl
theorem q1078 : (Jvm.Cond.methodLink "GleanersForGaps" (486 : Nat) ({ cls := "GleanersForGaps", name := "isSoAs", desc := "(Ljava/lang/Object;III)Z" } : Jvm.MethodName)) ∈ lw_all := lw_g (lw_at lw_m5 16 rfl) rfl
theorem q1079 : (Jvm.Cond.privateMethod ({ cls := "GleanersForGaps", name := "isSoAs", desc := "(Ljava/lang/Object;III)Z" } : Jvm.MethodName)) ∈ lw_tbl := lw_at lw_m5 17 rfl
theorem q1080 : (Jvm.Cond.instanceMethod ({ cls := "GleanersForGaps", name := "isSoAs", desc := "(Ljava/lang/Object;III)Z" } : Jvm.MethodName)) ∈ lw_all := lw_g (lw_at lw_m5 18 rfl) rfl
theorem q1081 : (Jvm.Cond.codeWith ({ cls := "GleanersForGaps", name := "isSoAs", desc := "(Ljava/lang/Object;III)Z" } : Jvm.MethodName) prog_1_method_76_code (8 : Nat) (Option.some Jvm.ClassFile.FieldType.boolean) [((8 : Nat), (47 : Nat), (58 : Nat), (0 : Nat)), ((58 : Nat), (60 : Nat), (58 : Nat), (0 : Nat))]) ∈ lw_all := lw_g (lw_at lw_m5 19 rfl) rfl
theorem q1082 : (Jvm.Cond.methodLink "GleanersForGaps" (479 : Nat) ({ cls := "GleanersForGaps$Gleaner", name := "like", desc := "(LGleanersForGaps$Gleaner;)LGleanersForGaps$Gleaner;" } : Jvm.MethodName)) ∈ lw_all := lw_g (lw_at lw_m5 20 rfl) rfl
theorem q1092 : (Jvm.Cond.methodLink "GleanersForGaps" (505 : Nat) ({ cls := "GleanersForGaps", name := "numbersOf", desc := "(Ljava/lang/Object;II)I" } : Jvm.MethodName)) ∈ lw_all := lw_g (lw_at lw_m5 30 rfl) rfl
theorem q1093 : (Jvm.Cond.privateMethod ({ cls := "GleanersForGaps", name := "numbersOf", desc := "(Ljava/lang/Object;II)I" } : Jvm.MethodName)) ∈ lw_tbl := lw_at lw_m5 31 rfl
theorem q1094 : (Jvm.Cond.instanceMethod ({ cls := "GleanersForGaps", name := "numbersOf", desc := "(Ljava/lang/Object;II)I" } : Jvm.MethodName)) ∈ lw_all := lw_g (lw_at lw_m5 32 rfl) rfl
theorem q1095 : (Jvm.Cond.code ({ cls := "GleanersForGaps", name := "numbersOf", desc := "(Ljava/lang/Object;II)I" } : Jvm.MethodName) prog_1_method_79_code (6 : Nat) (Option.some Jvm.ClassFile.FieldType.int)) ∈ lw_all := lw_g (lw_at lw_m5 33 rfl) rfl
theorem q1096 : (Jvm.Cond.methodLink "GleanersForGaps" (490 : Nat) ({ cls := "GleanersForGaps", name := "isSoBy", desc := "(Ljava/lang/Object;IIII)Z" } : Jvm.MethodName)) ∈ lw_all := lw_g (lw_at lw_m5 34 rfl) rfl
theorem q1097 : (Jvm.Cond.privateMethod ({ cls := "GleanersForGaps", name := "isSoBy", desc := "(Ljava/lang/Object;IIII)Z" } : Jvm.MethodName)) ∈ lw_tbl := lw_at lw_m5 35 rfl
theorem q1098 : (Jvm.Cond.instanceMethod ({ cls := "GleanersForGaps", name := "isSoBy", desc := "(Ljava/lang/Object;IIII)Z" } : Jvm.MethodName)) ∈ lw_all := lw_g (lw_at lw_m5 36 rfl) rfl
theorem q1099 : (Jvm.Cond.codeWith ({ cls := "GleanersForGaps", name := "isSoBy", desc := "(Ljava/lang/Object;IIII)Z" } : Jvm.MethodName) prog_1_method_78_code (9 : Nat) (Option.some Jvm.ClassFile.FieldType.boolean) [((9 : Nat), (36 : Nat), (48 : Nat), (0 : Nat)), ((48 : Nat), (50 : Nat), (48 : Nat), (0 : Nat))]) ∈ lw_all := lw_g (lw_at lw_m5 37 rfl) rfl
theorem q1100 : (Jvm.Cond.methodLink "GleanersForGaps" (508 : Nat) ({ cls := "GleanersForGaps", name := "apronsOf", desc := "(Ljava/lang/Object;IIZ)I" } : Jvm.MethodName)) ∈ lw_all := lw_g (lw_at lw_m5 38 rfl) rfl
theorem q1101 : (Jvm.Cond.privateMethod ({ cls := "GleanersForGaps", name := "apronsOf", desc := "(Ljava/lang/Object;IIZ)I" } : Jvm.MethodName)) ∈ lw_tbl := lw_at lw_m5 39 rfl
theorem q1102 : (Jvm.Cond.instanceMethod ({ cls := "GleanersForGaps", name := "apronsOf", desc := "(Ljava/lang/Object;IIZ)I" } : Jvm.MethodName)) ∈ lw_all := lw_g (lw_at lw_m5 40 rfl) rfl
theorem q1103 : (Jvm.Cond.code ({ cls := "GleanersForGaps", name := "apronsOf", desc := "(Ljava/lang/Object;IIZ)I" } : Jvm.MethodName) prog_1_method_80_code (7 : Nat) (Option.some Jvm.ClassFile.FieldType.int)) ∈ lw_all := lw_g (lw_at lw_m5 41 rfl) rfl
theorem q1104 : (Jvm.Cond.methodLink "GleanersForGaps" (512 : Nat) ({ cls := "GleanersForGaps", name := "textsOf", desc := "(Ljava/lang/Object;II)I" } : Jvm.MethodName)) ∈ lw_all := lw_g (lw_at lw_m5 42 rfl) rfl
theorem q1105 : (Jvm.Cond.privateMethod ({ cls := "GleanersForGaps", name := "textsOf", desc := "(Ljava/lang/Object;II)I" } : Jvm.MethodName)) ∈ lw_tbl := lw_at lw_m5 43 rfl
theorem q1106 : (Jvm.Cond.instanceMethod ({ cls := "GleanersForGaps", name := "textsOf", desc := "(Ljava/lang/Object;II)I" } : Jvm.MethodName)) ∈ lw_all := lw_g (lw_at lw_m5 44 rfl) rfl
theorem q1107 : (Jvm.Cond.codeWith ({ cls := "GleanersForGaps", name := "textsOf", desc := "(Ljava/lang/Object;II)I" } : Jvm.MethodName) prog_1_method_81_code (8 : Nat) (Option.some Jvm.ClassFile.FieldType.int) [((9 : Nat), (57 : Nat), (66 : Nat), (0 : Nat)), ((66 : Nat), (68 : Nat), (66 : Nat), (0 : Nat))]) ∈ lw_all := lw_g (lw_at lw_m5 45 rfl) rfl
theorem q1108 : (Jvm.Cond.methodLink "GleanersForGaps" (515 : Nat) ({ cls := "GleanersForGaps", name := "whoseOf", desc := "(Ljava/lang/Object;I)I" } : Jvm.MethodName)) ∈ lw_all := lw_g (lw_at lw_m5 46 rfl) rfl
theorem q1109 : (Jvm.Cond.privateMethod ({ cls := "GleanersForGaps", name := "whoseOf", desc := "(Ljava/lang/Object;I)I" } : Jvm.MethodName)) ∈ lw_tbl := lw_at lw_m5 47 rfl
theorem q1110 : (Jvm.Cond.instanceMethod ({ cls := "GleanersForGaps", name := "whoseOf", desc := "(Ljava/lang/Object;I)I" } : Jvm.MethodName)) ∈ lw_all := lw_g (lw_at lw_m5 48 rfl) rfl
theorem q1111 : (Jvm.Cond.code ({ cls := "GleanersForGaps", name := "whoseOf", desc := "(Ljava/lang/Object;I)I" } : Jvm.MethodName) prog_1_method_82_code (5 : Nat) (Option.some Jvm.ClassFile.FieldType.int)) ∈ lw_all := lw_g (lw_at lw_m5 49 rfl) rfl
theorem q1112 : (Jvm.Cond.methodLink "GleanersForGaps" (518 : Nat) ({ cls := "GleanersForGaps", name := "rowsOf", desc := "(Ljava/lang/Object;I)I" } : Jvm.MethodName)) ∈ lw_all := lw_g (lw_at lw_m5 50 rfl) rfl
theorem q1113 : (Jvm.Cond.privateMethod ({ cls := "GleanersForGaps", name := "rowsOf", desc := "(Ljava/lang/Object;I)I" } : Jvm.MethodName)) ∈ lw_tbl := lw_at lw_m5 51 rfl
theorem q1114 : (Jvm.Cond.instanceMethod ({ cls := "GleanersForGaps", name := "rowsOf", desc := "(Ljava/lang/Object;I)I" } : Jvm.MethodName)) ∈ lw_all := lw_g (lw_at lw_m5 52 rfl) rfl
theorem q1115 : (Jvm.Cond.code ({ cls := "GleanersForGaps", name := "rowsOf", desc := "(Ljava/lang/Object;I)I" } : Jvm.MethodName) prog_1_method_83_code (6 : Nat) (Option.some Jvm.ClassFile.FieldType.int)) ∈ lw_all := lw_g (lw_at lw_m5 53 rfl) rfl
theorem q1117 : (Jvm.Cond.instanceMethod ({ cls := "GleanersForGaps", name := "film", desc := "(III)I" } : Jvm.MethodName)) ∈ lw_all := lw_g (lw_at lw_m5 55 rfl) rfl
theorem q1118 : (Jvm.Cond.selects "GleanersForGaps" ({ cls := "GleanersForGaps", name := "film", desc := "(III)I" } : Jvm.MethodName) ({ cls := "GleanersForGaps", name := "film", desc := "(III)I" } : Jvm.MethodName)) ∈ lw_all := lw_g (lw_at lw_m5 56 rfl) rfl
theorem q1119 : (Jvm.Cond.code ({ cls := "GleanersForGaps", name := "film", desc := "(III)I" } : Jvm.MethodName) prog_1_method_85_code (5 : Nat) (Option.some Jvm.ClassFile.FieldType.int)) ∈ lw_all := lw_g (lw_at lw_m5 57 rfl) rfl
theorem q1120 : (Jvm.Cond.methodLink "GleanersForGaps" (521 : Nat) ({ cls := "GleanersForGaps", name := "sheet", desc := "(III)I" } : Jvm.MethodName)) ∈ lw_all := lw_g (lw_at lw_m5 58 rfl) rfl
theorem q1121 : (Jvm.Cond.instanceMethod ({ cls := "GleanersForGaps", name := "sheet", desc := "(III)I" } : Jvm.MethodName)) ∈ lw_all := lw_g (lw_at lw_m5 59 rfl) rfl
theorem q1122 : (Jvm.Cond.selects "GleanersForGaps" ({ cls := "GleanersForGaps", name := "sheet", desc := "(III)I" } : Jvm.MethodName) ({ cls := "GleanersForGaps", name := "sheet", desc := "(III)I" } : Jvm.MethodName)) ∈ lw_all := lw_g (lw_at lw_m5 60 rfl) rfl
theorem q1123 : (Jvm.Cond.codeWith ({ cls := "GleanersForGaps", name := "sheet", desc := "(III)I" } : Jvm.MethodName) prog_1_method_94_code (5 : Nat) (Option.some Jvm.ClassFile.FieldType.int) [((52 : Nat), (67 : Nat), (68 : Nat), (542 : Nat))]) ∈ lw_all := lw_g (lw_at lw_m5 61 rfl) rfl
theorem q1124 : (Jvm.Cond.classLink "GleanersForGaps" (542 : Nat) "java/lang/NegativeArraySizeException") ∈ lw_all := lw_g (lw_at lw_m5 62 rfl) rfl
theorem q1151 : (Jvm.Cond.constantLong "GleanersForGaps" (534 : Nat) (-1 : Int64)) ∈ lw_all := lw_g (lw_at lw_m5 89 rfl) rfl
theorem q1152 : (Jvm.Cond.constantLong "GleanersForGaps" (536 : Nat) (2 : Int64)) ∈ lw_all := lw_g (lw_at lw_m5 90 rfl) rfl
theorem q1153 : (Jvm.Cond.methodLink "GleanersForGaps" (538 : Nat) ({ cls := "GleanersForGaps", name := "rowOf", desc := "(II)Ljava/lang/Object;" } : Jvm.MethodName)) ∈ lw_all := lw_g (lw_at lw_m5 91 rfl) rfl
theorem q1154 : (Jvm.Cond.static ({ cls := "GleanersForGaps", name := "rowOf", desc := "(II)Ljava/lang/Object;" } : Jvm.MethodName)) ∈ lw_all := lw_g (lw_at lw_m5 92 rfl) rfl
theorem q1155 : (Jvm.Cond.code ({ cls := "GleanersForGaps", name := "rowOf", desc := "(II)Ljava/lang/Object;" } : Jvm.MethodName) prog_1_method_93_code (2 : Nat) (Option.some (Jvm.ClassFile.FieldType.object "java/lang/Object"))) ∈ lw_all := lw_g (lw_at lw_m5 93 rfl) rfl
theorem q1156 : (Jvm.Cond.methodLink "GleanersForGaps" (524 : Nat) ({ cls := "GleanersForGaps", name := "cell", desc := "(III)I" } : Jvm.MethodName)) ∈ lw_all := lw_g (lw_at lw_m5 94 rfl) rfl
theorem q1157 : (Jvm.Cond.instanceMethod ({ cls := "GleanersForGaps", name := "cell", desc := "(III)I" } : Jvm.MethodName)) ∈ lw_all := lw_g (lw_at lw_m5 95 rfl) rfl
theorem q1158 : (Jvm.Cond.selects "GleanersForGaps" ({ cls := "GleanersForGaps", name := "cell", desc := "(III)I" } : Jvm.MethodName) ({ cls := "GleanersForGaps", name := "cell", desc := "(III)I" } : Jvm.MethodName)) ∈ lw_all := lw_g (lw_at lw_m5 96 rfl) rfl
theorem q1159 : (Jvm.Cond.codeWith ({ cls := "GleanersForGaps", name := "cell", desc := "(III)I" } : Jvm.MethodName) prog_1_method_96_code (5 : Nat) (Option.some Jvm.ClassFile.FieldType.int) [((10 : Nat), (24 : Nat), (25 : Nat), (554 : Nat)), ((10 : Nat), (24 : Nat), (30 : Nat), (556 : Nat))]) ∈ lw_all := lw_g (lw_at lw_m5 97 rfl) rfl
theorem q1160 : (Jvm.Cond.classLink "GleanersForGaps" (554 : Nat) "java/lang/NullPointerException") ∈ lw_all := lw_g (lw_at lw_m5 98 rfl) rfl
theorem q1197 : (Jvm.Cond.methodLink "GleanersForGaps" (551 : Nat) ({ cls := "GleanersForGaps", name := "put", desc := "(Ljava/lang/Object;II)I" } : Jvm.MethodName)) ∈ lw_all := lw_g (lw_at lw_m5 135 rfl) rfl
theorem q1198 : (Jvm.Cond.static ({ cls := "GleanersForGaps", name := "put", desc := "(Ljava/lang/Object;II)I" } : Jvm.MethodName)) ∈ lw_all := lw_g (lw_at lw_m5 136 rfl) rfl
theorem q1199 : (Jvm.Cond.code ({ cls := "GleanersForGaps", name := "put", desc := "(Ljava/lang/Object;II)I" } : Jvm.MethodName) prog_1_method_95_code (3 : Nat) (Option.some Jvm.ClassFile.FieldType.int)) ∈ lw_all := lw_g (lw_at lw_m5 137 rfl) rfl
theorem q1202 : (Jvm.Cond.instanceMethod ({ cls := "GleanersForGaps", name := "drawn", desc := "(II)I" } : Jvm.MethodName)) ∈ lw_all := lw_g (lw_at lw_m5 140 rfl) rfl
theorem q1203 : (Jvm.Cond.selects "GleanersForGaps" ({ cls := "GleanersForGaps", name := "drawn", desc := "(II)I" } : Jvm.MethodName) ({ cls := "GleanersForGaps", name := "drawn", desc := "(II)I" } : Jvm.MethodName)) ∈ lw_all := lw_g (lw_at lw_m5 141 rfl) rfl
theorem q1204 : (Jvm.Cond.code ({ cls := "GleanersForGaps", name := "drawn", desc := "(II)I" } : Jvm.MethodName) prog_1_method_87_code (3 : Nat) (Option.some Jvm.ClassFile.FieldType.int)) ∈ lw_all := lw_g (lw_at lw_m5 142 rfl) rfl
theorem q1205 : (Jvm.Cond.methodLink "GleanersForGaps" (528 : Nat) ({ cls := "GleanersForGaps", name := "takenDrawn", desc := "(II)I" } : Jvm.MethodName)) ∈ lw_all := lw_g (lw_at lw_m5 143 rfl) rfl
theorem q1206 : (Jvm.Cond.privateMethod ({ cls := "GleanersForGaps", name := "takenDrawn", desc := "(II)I" } : Jvm.MethodName)) ∈ lw_tbl := lw_at lw_m5 144 rfl
theorem q1207 : (Jvm.Cond.instanceMethod ({ cls := "GleanersForGaps", name := "takenDrawn", desc := "(II)I" } : Jvm.MethodName)) ∈ lw_all := lw_g (lw_at lw_m5 145 rfl) rfl
theorem q1208 : (Jvm.Cond.codeWith ({ cls := "GleanersForGaps", name := "takenDrawn", desc := "(II)I" } : Jvm.MethodName) prog_1_method_86_code (6 : Nat) (Option.some Jvm.ClassFile.FieldType.int) [((7 : Nat), (82 : Nat), (90 : Nat), (0 : Nat)), ((90 : Nat), (92 : Nat), (90 : Nat), (0 : Nat))]) ∈ lw_all := lw_g (lw_at lw_m5 146 rfl) rfl
theorem q1209 : (Jvm.Cond.constant "GleanersForGaps" (527 : Nat) (1103515245 : Int32)) ∈ lw_all := lw_g (lw_at lw_m5 147 rfl) rfl
theorem q1211 : (Jvm.Cond.instanceMethod ({ cls := "GleanersForGaps", name := "chance", desc := "(IIIII)J" } : Jvm.MethodName)) ∈ lw_all := lw_g (lw_at lw_m5 149 rfl) rfl
theorem q1212 : (Jvm.Cond.selects "GleanersForGaps" ({ cls := "GleanersForGaps", name := "chance", desc := "(IIIII)J" } : Jvm.MethodName) ({ cls := "GleanersForGaps", name := "chance", desc := "(IIIII)J" } : Jvm.MethodName)) ∈ lw_all := lw_g (lw_at lw_m5 150 rfl) rfl
theorem q1213 : (Jvm.Cond.code ({ cls := "GleanersForGaps", name := "chance", desc := "(IIIII)J" } : Jvm.MethodName) prog_1_method_88_code (9 : Nat) (Option.some Jvm.ClassFile.FieldType.long)) ∈ lw_all := lw_g (lw_at lw_m5 151 rfl) rfl
theorem q1215 : (Jvm.Cond.instanceMethod ({ cls := "GleanersForGaps", name := "image", desc := "()I" } : Jvm.MethodName)) ∈ lw_all := lw_g (lw_at lw_m5 153 rfl) rfl
theorem q1216 : (Jvm.Cond.selects "GleanersForGaps" ({ cls := "GleanersForGaps", name := "image", desc := "()I" } : Jvm.MethodName) ({ cls := "GleanersForGaps", name := "image", desc := "()I" } : Jvm.MethodName)) ∈ lw_all := lw_g (lw_at lw_m5 154 rfl) rfl
theorem q1217 : (Jvm.Cond.code ({ cls := "GleanersForGaps", name := "image", desc := "()I" } : Jvm.MethodName) prog_1_method_89_code (2 : Nat) (Option.some Jvm.ClassFile.FieldType.int)) ∈ lw_all := lw_g (lw_at lw_m5 155 rfl) rfl
theorem q1219 : (Jvm.Cond.instanceMethod ({ cls := "GleanersForGaps", name := "back", desc := "()I" } : Jvm.MethodName)) ∈ lw_all := lw_g (lw_at lw_m5 157 rfl) rfl
theorem q1220 : (Jvm.Cond.selects "GleanersForGaps" ({ cls := "GleanersForGaps", name := "back", desc := "()I" } : Jvm.MethodName) ({ cls := "GleanersForGaps", name := "back", desc := "()I" } : Jvm.MethodName)) ∈ lw_all := lw_g (lw_at lw_m5 158 rfl) rfl
theorem q1221 : (Jvm.Cond.code ({ cls := "GleanersForGaps", name := "back", desc := "()I" } : Jvm.MethodName) prog_1_method_90_code (2 : Nat) (Option.some Jvm.ClassFile.FieldType.int)) ∈ lw_all := lw_g (lw_at lw_m5 159 rfl) rfl
theorem q1223 : (Jvm.Cond.instanceMethod ({ cls := "GleanersForGaps", name := "count", desc := "(I)I" } : Jvm.MethodName)) ∈ lw_all := lw_g (lw_at lw_m5 161 rfl) rfl
theorem q1224 : (Jvm.Cond.selects "GleanersForGaps" ({ cls := "GleanersForGaps", name := "count", desc := "(I)I" } : Jvm.MethodName) ({ cls := "GleanersForGaps", name := "count", desc := "(I)I" } : Jvm.MethodName)) ∈ lw_all := lw_g (lw_at lw_m5 162 rfl) rfl
theorem q1225 : (Jvm.Cond.code ({ cls := "GleanersForGaps", name := "count", desc := "(I)I" } : Jvm.MethodName) prog_1_method_91_code (2 : Nat) (Option.some Jvm.ClassFile.FieldType.int)) ∈ lw_all := lw_g (lw_at lw_m5 163 rfl) rfl
theorem q1229 : (Jvm.Cond.instanceMethod ({ cls := "GleanersForGaps", name := "copy", desc := "(IIIII)I" } : Jvm.MethodName)) ∈ lw_all := lw_g (lw_at lw_m5 167 rfl) rfl
theorem q1230 : (Jvm.Cond.selects "GleanersForGaps" ({ cls := "GleanersForGaps", name := "copy", desc := "(IIIII)I" } : Jvm.MethodName) ({ cls := "GleanersForGaps", name := "copy", desc := "(IIIII)I" } : Jvm.MethodName)) ∈ lw_all := lw_g (lw_at lw_m5 168 rfl) rfl
theorem q1231 : (Jvm.Cond.code ({ cls := "GleanersForGaps", name := "copy", desc := "(IIIII)I" } : Jvm.MethodName) prog_1_method_101_code (10 : Nat) (Option.some Jvm.ClassFile.FieldType.int)) ∈ lw_all := lw_g (lw_at lw_m5 169 rfl) rfl
theorem q1233 : (Jvm.Cond.instanceMethod ({ cls := "GleanersForGaps", name := "gleaners", desc := "(IIII)I" } : Jvm.MethodName)) ∈ lw_all := lw_g (lw_at lw_m5 171 rfl) rfl
theorem q1234 : (Jvm.Cond.selects "GleanersForGaps" ({ cls := "GleanersForGaps", name := "gleaners", desc := "(IIII)I" } : Jvm.MethodName) ({ cls := "GleanersForGaps", name := "gleaners", desc := "(IIII)I" } : Jvm.MethodName)) ∈ lw_all := lw_g (lw_at lw_m5 172 rfl) rfl
theorem q1235 : (Jvm.Cond.codeWith ({ cls := "GleanersForGaps", name := "gleaners", desc := "(IIII)I" } : Jvm.MethodName) prog_1_method_103_code (6 : Nat) (Option.some Jvm.ClassFile.FieldType.int) [((35 : Nat), (52 : Nat), (53 : Nat), (566 : Nat)), ((35 : Nat), (52 : Nat), (58 : Nat), (554 : Nat)), ((35 : Nat), (52 : Nat), (63 : Nat), (556 : Nat))]) ∈ lw_all := lw_g (lw_at lw_m5 173 rfl) rfl
theorem q1236 : (Jvm.Cond.classLink "GleanersForGaps" (566 : Nat) "java/lang/ClassCastException") ∈ lw_all := lw_g (lw_at lw_m5 174 rfl) rfl
theorem q1250 : (Jvm.Cond.methodLink "GleanersForGaps" (562 : Nat) ({ cls := "GleanersForGaps", name := "came", desc := "(Ljava/lang/Object;III)I" } : Jvm.MethodName)) ∈ lw_all := lw_g (lw_at lw_m5 188 rfl) rfl
theorem q1251 : (Jvm.Cond.privateMethod ({ cls := "GleanersForGaps", name := "came", desc := "(Ljava/lang/Object;III)I" } : Jvm.MethodName)) ∈ lw_tbl := lw_at lw_m5 189 rfl
theorem q1252 : (Jvm.Cond.instanceMethod ({ cls := "GleanersForGaps", name := "came", desc := "(Ljava/lang/Object;III)I" } : Jvm.MethodName)) ∈ lw_all := lw_g (lw_at lw_m5 190 rfl) rfl
theorem q1253 : (Jvm.Cond.code ({ cls := "GleanersForGaps", name := "came", desc := "(Ljava/lang/Object;III)I" } : Jvm.MethodName) prog_1_method_102_code (9 : Nat) (Option.some Jvm.ClassFile.FieldType.int)) ∈ lw_all := lw_g (lw_at lw_m5 191 rfl) rfl
theorem q1254 : (Jvm.Cond.methodLink "GleanersForGaps" (559 : Nat) ({ cls := "GleanersForGaps", name := "gleaner", desc := "(II)I" } : Jvm.MethodName)) ∈ lw_all := lw_g (lw_at lw_m5 192 rfl) rfl
theorem q1256 : (Jvm.Cond.instanceMethod ({ cls := "GleanersForGaps", name := "taken", desc := "(II)I" } : Jvm.MethodName)) ∈ lw_all := lw_g (lw_at lw_m5 194 rfl) rfl
theorem q1257 : (Jvm.Cond.selects "GleanersForGaps" ({ cls := "GleanersForGaps", name := "taken", desc := "(II)I" } : Jvm.MethodName) ({ cls := "GleanersForGaps", name := "taken", desc := "(II)I" } : Jvm.MethodName)) ∈ lw_all := lw_g (lw_at lw_m5 195 rfl) rfl
theorem q1258 : (Jvm.Cond.codeWith ({ cls := "GleanersForGaps", name := "taken", desc := "(II)I" } : Jvm.MethodName) prog_1_method_105_code (4 : Nat) (Option.some Jvm.ClassFile.FieldType.int) [((15 : Nat), (40 : Nat), (41 : Nat), (554 : Nat)), ((15 : Nat), (40 : Nat), (45 : Nat), (566 : Nat))]) ∈ lw_all := lw_g (lw_at lw_m5 196 rfl) rfl
theorem q1259 : (Jvm.Cond.methodLink "GleanersForGaps" (568 : Nat) ({ cls := "GleanersForGaps", name := "as", desc := "(LGleanersForGaps$Gleaner;I)LGleanersForGaps$Gleaner;" } : Jvm.MethodName)) ∈ lw_all := lw_g (lw_at lw_m5 197 rfl) rfl
theorem q1260 : (Jvm.Cond.static ({ cls := "GleanersForGaps", name := "as", desc := "(LGleanersForGaps$Gleaner;I)LGleanersForGaps$Gleaner;" } : Jvm.MethodName)) ∈ lw_all := lw_g (lw_at lw_m5 198 rfl) rfl
theorem q1261 : (Jvm.Cond.code ({ cls := "GleanersForGaps", name := "as", desc := "(LGleanersForGaps$Gleaner;I)LGleanersForGaps$Gleaner;" } : Jvm.MethodName) prog_1_method_104_code (2 : Nat) (Option.some (Jvm.ClassFile.FieldType.object "GleanersForGaps$Gleaner"))) ∈ lw_all := lw_g (lw_at lw_m5 199 rfl) rfl
theorem in_X0 : ∀ w ∈ wsX00, w ∈ lw_all := lw_in wsX00 [790, 792, 794, 796, 798, 800, 802, 804, 806, 808, 810, 812, 814, 816, 818, 820, 822, 824, 826, 828, 830, 832, 834, 836, 838, 840, 842, 844, 846, 848, 850, 852, 854, 856, 858, 860, 862, 864, 866, 868] (by decide +kernel) (by decide +kernel)
