/-! GleanersForGapsModel -/
set_option maxRecDepth 100000
def RX8 : String := "GleanersForGapsModel"
def TX8 : u_T := fun k => match k with
  | 0 => ("GleanersForGapsModel", "thrown", "I", false)
  | 1 => ("GleanersForGapsModel", "texts", "[I", true)
  | 2 => ("GleanersForGapsModel", "textSize", "[I", true)
  | 3 => ("GleanersForGapsModel", "textCount", "I", false)
  | 4 => ("GleanersForGapsModel", "rule", "I", false)
  | 5 => ("GleanersForGapsModel", "tape", "[I", true)
  | 6 => ("GleanersForGapsModel", "taped", "I", false)
  | 7 => ("GleanersForGapsModel", "nightNow", "I", false)
  | 8 => ("GleanersForGapsModel", "bits", "[I", true)
  | 9 => ("GleanersForGapsModel", "length", "[I", true)
  | 10 => ("GleanersForGapsModel", "kinds", "[I", true)
  | 11 => ("GleanersForGapsModel", "rows", "[I", true)
  | 12 => ("GleanersForGapsModel", "many", "I", false)
  | 13 => ("GleanersForGapsModel", "ofGap", "I", false)
  | 14 => ("GleanersForGapsModel", "ofNth", "I", false)
  | 15 => ("GleanersForGapsModel", "ofNumber", "I", false)
  | 16 => ("GleanersForGapsModel", "ofNight", "I", false)
  | 17 => ("GleanersForGapsModel", "ofApron", "I", false)
  | 18 => ("GleanersForGapsModel", "ofRow", "I", false)
  | 19 => ("GleanersForGapsModel", "from", "I", false)
  | 20 => ("GleanersForGapsModel", "size", "I", false)
  | 21 => ("GleanersForGapsModel", "here", "I", false)
  | 22 => ("GleanersForGapsModel", "token", "I", false)
  | 23 => ("GleanersForGapsModel", "tokenAt", "I", false)
  | 24 => ("GleanersForGapsModel", "tokenWorth", "J", false)
  | 25 => ("GleanersForGapsModel", "open", "I", false)
  | 26 => ("GleanersForGapsModel", "bad", "Z", false)
  | 27 => ("GleanersForGapsModel", "fault", "I", false)
  | 28 => ("GleanersForGapsModel", "begins", "[I", true)
  | 29 => ("GleanersForGapsModel", "sizes", "[I", true)
  | 30 => ("GleanersForGapsModel", "takes1", "[I", true)
  | 31 => ("GleanersForGapsModel", "digitOf", "[I", true)
  | 32 => ("GleanersForGapsModel", "keptNow", "[I", true)
  | 33 => ("GleanersForGapsModel", "shakenNow", "[I", true)
  | 34 => ("GleanersForGapsModel", "was", "[I", true)
  | 35 => ("GleanersForGapsModel", "bestDigits", "I", false)
  | 36 => ("GleanersForGapsModel", "bestOf", "I", false)
  | 37 => ("GleanersForGapsModel", "bitsKept", "[I", true)
  | 38 => ("GleanersForGapsModel", "lengthKept", "[I", true)
  | 39 => ("GleanersForGapsModel", "rowsKept", "[I", true)
  | 40 => ("GleanersForGapsModel", "manyKept", "I", false)
  | 41 => ("GleanersForGapsModel", "nightKept", "I", false)
  | 42 => ("GleanersForGapsModel", "ruleKept", "I", false)
  | 43 => ("GleanersForGapsModel", "isThere", "[Z", true)
  | 44 => ("GleanersForGapsModel", "sorts", "[I", true)
  | 45 => ("GleanersForGapsModel", "sheetSize", "[I", true)
  | _ => ("GleanersForGapsModel", "items", "[I", true)
def tyX8 : Nat → FieldType := fun k => match k with
  | 0 => .int
  | 1 => .array .int
  | 2 => .array .int
  | 3 => .int
  | 4 => .int
  | 5 => .array .int
  | 6 => .int
  | 7 => .int
  | 8 => .array .int
  | 9 => .array .int
  | 10 => .array .int
  | 11 => .array .int
  | 12 => .int
  | 13 => .int
  | 14 => .int
  | 15 => .int
  | 16 => .int
  | 17 => .int
  | 18 => .int
  | 19 => .int
  | 20 => .int
  | 21 => .int
  | 22 => .int
  | 23 => .int
  | 24 => .long
  | 25 => .int
  | 26 => .boolean
  | 27 => .int
  | 28 => .array .int
  | 29 => .array .int
  | 30 => .array .int
  | 31 => .array .int
  | 32 => .array .int
  | 33 => .array .int
  | 34 => .array .int
  | 35 => .int
  | 36 => .int
  | 37 => .array .int
  | 38 => .array .int
  | 39 => .array .int
  | 40 => .int
  | 41 => .int
  | 42 => .int
  | 43 => .array .boolean
  | 44 => .array .int
  | 45 => .array .int
  | _ => .array .int
abbrev wsX80 : List Cond := u_ws RX8 TX8 47
set_option maxRecDepth 100000 in
theorem nmX8 : ∀ a, a < 47 → ∀ b, b < 47 → a ≠ b → (TX8 a).2.1 ≠ (TX8 b).2.1 := by decide +kernel
set_option maxRecDepth 100000 in
theorem tyX8_ok : ∀ k, k < 47 → parseFieldDescriptor (TX8 k).2.2.1 = some (tyX8 k) := by decide +kernel
abbrev cX8_init : ByteArray := prog_16_method_4_code
def yX8_init : MethodName := ⟨RX8, "<init>", "()V"⟩
def dkwX8_init_12 : List UInt8 := [182, 0, 81, 42, 180, 0, 17, 3, 16, 40, 79, 42, 4, 181, 0, 85, 177]
abbrev dktX8_init_12 : List UInt8 := dkwX8_init_12 ++ []
def dkwX8_init_11 : List UInt8 := [182, 0, 81, 42, 16, 32, 16, 59, 16, 32, 16, 32, 16, 32, 16, 32, 16, 32, 16, 32, 16, 32]
abbrev dktX8_init_11 : List UInt8 := dkwX8_init_11 ++ dktX8_init_12
def dkwX8_init_10 : List UInt8 := [182, 0, 81, 42, 16, 24, 16, 104, 16, 97, 16, 107, 16, 101, 16, 115, 16, 32, 16, 48, 16, 32]
abbrev dktX8_init_10 : List UInt8 := dkwX8_init_10 ++ dktX8_init_11
def dkwX8_init_9 : List UInt8 := [182, 0, 81, 42, 16, 16, 16, 115, 16, 32, 16, 53, 16, 48, 16, 32, 16, 59, 16, 32, 16, 115]
abbrev dktX8_init_9 : List UInt8 := dkwX8_init_9 ++ dktX8_init_10
def dkwX8_init_8 : List UInt8 := [182, 0, 81, 42, 16, 8, 16, 112, 16, 32, 16, 59, 16, 32, 16, 107, 16, 101, 16, 101, 16, 112]
abbrev dktX8_init_8 : List UInt8 := dkwX8_init_8 ++ dktX8_init_9
def dkwX8_init_7 : List UInt8 := [188, 10, 181, 0, 78, 42, 3, 16, 116, 16, 97, 16, 107, 16, 101, 16, 115, 16, 32, 16, 103, 16, 97]
abbrev dktX8_init_7 : List UInt8 := dkwX8_init_7 ++ dktX8_init_8
def dkwX8_init_6 : List UInt8 := [7, 188, 4, 181, 0, 68, 42, 7, 188, 10, 181, 0, 72, 42, 7, 188, 10, 181, 0, 75, 42, 17, 0, 160]
abbrev dktX8_init_6 : List UInt8 := dkwX8_init_6 ++ dktX8_init_7
def dkwX8_init_5 : List UInt8 := [181, 0, 56, 42, 7, 188, 10, 181, 0, 59, 42, 16, 10, 188, 10, 181, 0, 62, 42, 2, 181, 0, 65, 42]
abbrev dktX8_init_5 : List UInt8 := dkwX8_init_5 ++ dktX8_init_6
def dkwX8_init_4 : List UInt8 := [181, 0, 47, 42, 7, 188, 10, 181, 0, 50, 42, 16, 21, 188, 10, 181, 0, 53, 42, 7, 188, 10]
abbrev dktX8_init_4 : List UInt8 := dkwX8_init_4 ++ dktX8_init_5
def dkwX8_init_3 : List UInt8 := [188, 10, 181, 0, 38, 42, 16, 24, 188, 10, 181, 0, 41, 42, 8, 188, 10, 181, 0, 44, 42, 8, 188, 10]
abbrev dktX8_init_3 : List UInt8 := dkwX8_init_3 ++ dktX8_init_4
def dkwX8_init_2 : List UInt8 := [188, 10, 181, 0, 29, 42, 16, 10, 188, 10, 181, 0, 32, 42, 16, 24, 188, 10, 181, 0, 35, 42, 16, 24]
abbrev dktX8_init_2 : List UInt8 := dkwX8_init_2 ++ dktX8_init_3
def dkwX8_init_1 : List UInt8 := [17, 0, 160, 188, 10, 181, 0, 20, 42, 8, 188, 10, 181, 0, 23, 42, 8, 188, 10, 181, 0, 26, 42, 8]
abbrev dktX8_init_1 : List UInt8 := dkwX8_init_1 ++ dktX8_init_2
def dkwX8_init_0 : List UInt8 := [42, 183, 0, 7, 42, 17, 3, 192, 188, 10, 181, 0, 13, 42, 16, 6, 188, 10, 181, 0, 17, 42]
abbrev dktX8_init_0 : List UInt8 := dkwX8_init_0 ++ dktX8_init_1
theorem dksX8_init_0 : cX8_init.data.toList.drop 0 = dktX8_init_0 := by decide +kernel
theorem dksX8_init_1 : cX8_init.data.toList.drop 22 = dktX8_init_1 := dk_seg dksX8_init_0 22 rfl rfl
theorem dksX8_init_2 : cX8_init.data.toList.drop 46 = dktX8_init_2 := dk_seg dksX8_init_1 24 rfl rfl
theorem dksX8_init_3 : cX8_init.data.toList.drop 70 = dktX8_init_3 := dk_seg dksX8_init_2 24 rfl rfl
theorem dksX8_init_4 : cX8_init.data.toList.drop 94 = dktX8_init_4 := dk_seg dksX8_init_3 24 rfl rfl
theorem dksX8_init_5 : cX8_init.data.toList.drop 116 = dktX8_init_5 := dk_seg dksX8_init_4 22 rfl rfl
theorem dksX8_init_6 : cX8_init.data.toList.drop 140 = dktX8_init_6 := dk_seg dksX8_init_5 24 rfl rfl
theorem dksX8_init_7 : cX8_init.data.toList.drop 164 = dktX8_init_7 := dk_seg dksX8_init_6 24 rfl rfl
theorem dksX8_init_8 : cX8_init.data.toList.drop 187 = dktX8_init_8 := dk_seg dksX8_init_7 23 rfl rfl
theorem dksX8_init_9 : cX8_init.data.toList.drop 209 = dktX8_init_9 := dk_seg dksX8_init_8 22 rfl rfl
theorem dksX8_init_10 : cX8_init.data.toList.drop 231 = dktX8_init_10 := dk_seg dksX8_init_9 22 rfl rfl
theorem dksX8_init_11 : cX8_init.data.toList.drop 253 = dktX8_init_11 := dk_seg dksX8_init_10 22 rfl rfl
theorem dksX8_init_12 : cX8_init.data.toList.drop 275 = dktX8_init_12 := dk_seg dksX8_init_11 22 rfl rfl
theorem dX8_init_0 : decode cX8_init 0 = .ok (.aload_n 0, 1) := dk_42 (dk_at dksX8_init_0 0 rfl rfl)
theorem dX8_init_1 : decode cX8_init 1 = .ok (.invokespecial 7, 3) := dk_183 0 7 (dk_at dksX8_init_0 1 rfl rfl)
theorem dX8_init_4 : decode cX8_init 4 = .ok (.aload_n 0, 1) := dk_42 (dk_at dksX8_init_0 4 rfl rfl)
theorem dX8_init_5 : decode cX8_init 5 = .ok (.sipush 960, 3) := dk_17 3 192 (dk_at dksX8_init_0 5 rfl rfl)
theorem dX8_init_8 : decode cX8_init 8 = .ok (.newarray .int, 2) := dk_188_10 (dk_at dksX8_init_0 8 rfl rfl)
theorem dX8_init_10 : decode cX8_init 10 = .ok (.putfield 13, 3) := dk_181 0 13 (dk_at dksX8_init_0 10 rfl rfl)
theorem dX8_init_13 : decode cX8_init 13 = .ok (.aload_n 0, 1) := dk_42 (dk_at dksX8_init_0 13 rfl rfl)
theorem dX8_init_14 : decode cX8_init 14 = .ok (.bipush 6, 2) := dk_16 6 (dk_at dksX8_init_0 14 rfl rfl)
theorem dX8_init_16 : decode cX8_init 16 = .ok (.newarray .int, 2) := dk_188_10 (dk_at dksX8_init_0 16 rfl rfl)
theorem dX8_init_18 : decode cX8_init 18 = .ok (.putfield 17, 3) := dk_181 0 17 (dk_at dksX8_init_0 18 rfl rfl)
theorem dX8_init_21 : decode cX8_init 21 = .ok (.aload_n 0, 1) := dk_42 (dk_at dksX8_init_0 21 rfl rfl)
theorem dX8_init_22 : decode cX8_init 22 = .ok (.sipush 160, 3) := dk_17 0 160 (dk_at dksX8_init_1 0 rfl rfl)
theorem dX8_init_25 : decode cX8_init 25 = .ok (.newarray .int, 2) := dk_188_10 (dk_at dksX8_init_1 3 rfl rfl)
theorem dX8_init_27 : decode cX8_init 27 = .ok (.putfield 20, 3) := dk_181 0 20 (dk_at dksX8_init_1 5 rfl rfl)
theorem dX8_init_30 : decode cX8_init 30 = .ok (.aload_n 0, 1) := dk_42 (dk_at dksX8_init_1 8 rfl rfl)
theorem dX8_init_31 : decode cX8_init 31 = .ok (.iconst 5, 1) := dk_8 (dk_at dksX8_init_1 9 rfl rfl)
theorem dX8_init_32 : decode cX8_init 32 = .ok (.newarray .int, 2) := dk_188_10 (dk_at dksX8_init_1 10 rfl rfl)
theorem dX8_init_34 : decode cX8_init 34 = .ok (.putfield 23, 3) := dk_181 0 23 (dk_at dksX8_init_1 12 rfl rfl)
theorem dX8_init_37 : decode cX8_init 37 = .ok (.aload_n 0, 1) := dk_42 (dk_at dksX8_init_1 15 rfl rfl)
theorem dX8_init_38 : decode cX8_init 38 = .ok (.iconst 5, 1) := dk_8 (dk_at dksX8_init_1 16 rfl rfl)
theorem dX8_init_39 : decode cX8_init 39 = .ok (.newarray .int, 2) := dk_188_10 (dk_at dksX8_init_1 17 rfl rfl)
theorem dX8_init_41 : decode cX8_init 41 = .ok (.putfield 26, 3) := dk_181 0 26 (dk_at dksX8_init_1 19 rfl rfl)
theorem dX8_init_44 : decode cX8_init 44 = .ok (.aload_n 0, 1) := dk_42 (dk_at dksX8_init_1 22 rfl rfl)
theorem dX8_init_45 : decode cX8_init 45 = .ok (.iconst 5, 1) := dk_8 (dk_at dksX8_init_1 23 rfl rfl)
theorem dX8_init_46 : decode cX8_init 46 = .ok (.newarray .int, 2) := dk_188_10 (dk_at dksX8_init_2 0 rfl rfl)
theorem dX8_init_48 : decode cX8_init 48 = .ok (.putfield 29, 3) := dk_181 0 29 (dk_at dksX8_init_2 2 rfl rfl)
theorem dX8_init_51 : decode cX8_init 51 = .ok (.aload_n 0, 1) := dk_42 (dk_at dksX8_init_2 5 rfl rfl)
theorem dX8_init_52 : decode cX8_init 52 = .ok (.bipush 10, 2) := dk_16 10 (dk_at dksX8_init_2 6 rfl rfl)
theorem dX8_init_54 : decode cX8_init 54 = .ok (.newarray .int, 2) := dk_188_10 (dk_at dksX8_init_2 8 rfl rfl)
theorem dX8_init_56 : decode cX8_init 56 = .ok (.putfield 32, 3) := dk_181 0 32 (dk_at dksX8_init_2 10 rfl rfl)
theorem dX8_init_59 : decode cX8_init 59 = .ok (.aload_n 0, 1) := dk_42 (dk_at dksX8_init_2 13 rfl rfl)
theorem dX8_init_60 : decode cX8_init 60 = .ok (.bipush 24, 2) := dk_16 24 (dk_at dksX8_init_2 14 rfl rfl)
theorem dX8_init_62 : decode cX8_init 62 = .ok (.newarray .int, 2) := dk_188_10 (dk_at dksX8_init_2 16 rfl rfl)
theorem dX8_init_64 : decode cX8_init 64 = .ok (.putfield 35, 3) := dk_181 0 35 (dk_at dksX8_init_2 18 rfl rfl)
theorem dX8_init_67 : decode cX8_init 67 = .ok (.aload_n 0, 1) := dk_42 (dk_at dksX8_init_2 21 rfl rfl)
theorem dX8_init_68 : decode cX8_init 68 = .ok (.bipush 24, 2) := dk_16 24 (dk_at dksX8_init_2 22 rfl rfl)
theorem dX8_init_70 : decode cX8_init 70 = .ok (.newarray .int, 2) := dk_188_10 (dk_at dksX8_init_3 0 rfl rfl)
theorem dX8_init_72 : decode cX8_init 72 = .ok (.putfield 38, 3) := dk_181 0 38 (dk_at dksX8_init_3 2 rfl rfl)
theorem dX8_init_75 : decode cX8_init 75 = .ok (.aload_n 0, 1) := dk_42 (dk_at dksX8_init_3 5 rfl rfl)
theorem dX8_init_76 : decode cX8_init 76 = .ok (.bipush 24, 2) := dk_16 24 (dk_at dksX8_init_3 6 rfl rfl)
theorem dX8_init_78 : decode cX8_init 78 = .ok (.newarray .int, 2) := dk_188_10 (dk_at dksX8_init_3 8 rfl rfl)
theorem dX8_init_80 : decode cX8_init 80 = .ok (.putfield 41, 3) := dk_181 0 41 (dk_at dksX8_init_3 10 rfl rfl)
theorem dX8_init_83 : decode cX8_init 83 = .ok (.aload_n 0, 1) := dk_42 (dk_at dksX8_init_3 13 rfl rfl)
theorem dX8_init_84 : decode cX8_init 84 = .ok (.iconst 5, 1) := dk_8 (dk_at dksX8_init_3 14 rfl rfl)
theorem dX8_init_85 : decode cX8_init 85 = .ok (.newarray .int, 2) := dk_188_10 (dk_at dksX8_init_3 15 rfl rfl)
theorem dX8_init_87 : decode cX8_init 87 = .ok (.putfield 44, 3) := dk_181 0 44 (dk_at dksX8_init_3 17 rfl rfl)
theorem dX8_init_90 : decode cX8_init 90 = .ok (.aload_n 0, 1) := dk_42 (dk_at dksX8_init_3 20 rfl rfl)
theorem dX8_init_91 : decode cX8_init 91 = .ok (.iconst 5, 1) := dk_8 (dk_at dksX8_init_3 21 rfl rfl)
theorem dX8_init_92 : decode cX8_init 92 = .ok (.newarray .int, 2) := dk_188_10 (dk_at dksX8_init_3 22 rfl rfl)
theorem dX8_init_94 : decode cX8_init 94 = .ok (.putfield 47, 3) := dk_181 0 47 (dk_at dksX8_init_4 0 rfl rfl)
theorem dX8_init_97 : decode cX8_init 97 = .ok (.aload_n 0, 1) := dk_42 (dk_at dksX8_init_4 3 rfl rfl)
theorem dX8_init_98 : decode cX8_init 98 = .ok (.iconst 4, 1) := dk_7 (dk_at dksX8_init_4 4 rfl rfl)
theorem dX8_init_99 : decode cX8_init 99 = .ok (.newarray .int, 2) := dk_188_10 (dk_at dksX8_init_4 5 rfl rfl)
theorem dX8_init_101 : decode cX8_init 101 = .ok (.putfield 50, 3) := dk_181 0 50 (dk_at dksX8_init_4 7 rfl rfl)
theorem dX8_init_104 : decode cX8_init 104 = .ok (.aload_n 0, 1) := dk_42 (dk_at dksX8_init_4 10 rfl rfl)
theorem dX8_init_105 : decode cX8_init 105 = .ok (.bipush 21, 2) := dk_16 21 (dk_at dksX8_init_4 11 rfl rfl)
theorem dX8_init_107 : decode cX8_init 107 = .ok (.newarray .int, 2) := dk_188_10 (dk_at dksX8_init_4 13 rfl rfl)
theorem dX8_init_109 : decode cX8_init 109 = .ok (.putfield 53, 3) := dk_181 0 53 (dk_at dksX8_init_4 15 rfl rfl)
theorem dX8_init_112 : decode cX8_init 112 = .ok (.aload_n 0, 1) := dk_42 (dk_at dksX8_init_4 18 rfl rfl)
theorem dX8_init_113 : decode cX8_init 113 = .ok (.iconst 4, 1) := dk_7 (dk_at dksX8_init_4 19 rfl rfl)
theorem dX8_init_114 : decode cX8_init 114 = .ok (.newarray .int, 2) := dk_188_10 (dk_at dksX8_init_4 20 rfl rfl)
theorem dX8_init_116 : decode cX8_init 116 = .ok (.putfield 56, 3) := dk_181 0 56 (dk_at dksX8_init_5 0 rfl rfl)
theorem dX8_init_119 : decode cX8_init 119 = .ok (.aload_n 0, 1) := dk_42 (dk_at dksX8_init_5 3 rfl rfl)
theorem dX8_init_120 : decode cX8_init 120 = .ok (.iconst 4, 1) := dk_7 (dk_at dksX8_init_5 4 rfl rfl)
theorem dX8_init_121 : decode cX8_init 121 = .ok (.newarray .int, 2) := dk_188_10 (dk_at dksX8_init_5 5 rfl rfl)
theorem dX8_init_123 : decode cX8_init 123 = .ok (.putfield 59, 3) := dk_181 0 59 (dk_at dksX8_init_5 7 rfl rfl)
theorem dX8_init_126 : decode cX8_init 126 = .ok (.aload_n 0, 1) := dk_42 (dk_at dksX8_init_5 10 rfl rfl)
theorem dX8_init_127 : decode cX8_init 127 = .ok (.bipush 10, 2) := dk_16 10 (dk_at dksX8_init_5 11 rfl rfl)
theorem dX8_init_129 : decode cX8_init 129 = .ok (.newarray .int, 2) := dk_188_10 (dk_at dksX8_init_5 13 rfl rfl)
theorem dX8_init_131 : decode cX8_init 131 = .ok (.putfield 62, 3) := dk_181 0 62 (dk_at dksX8_init_5 15 rfl rfl)
theorem dX8_init_134 : decode cX8_init 134 = .ok (.aload_n 0, 1) := dk_42 (dk_at dksX8_init_5 18 rfl rfl)
theorem dX8_init_135 : decode cX8_init 135 = .ok (.iconst (-1), 1) := dk_2 (dk_at dksX8_init_5 19 rfl rfl)
theorem dX8_init_136 : decode cX8_init 136 = .ok (.putfield 65, 3) := dk_181 0 65 (dk_at dksX8_init_5 20 rfl rfl)
theorem dX8_init_139 : decode cX8_init 139 = .ok (.aload_n 0, 1) := dk_42 (dk_at dksX8_init_5 23 rfl rfl)
theorem dX8_init_140 : decode cX8_init 140 = .ok (.iconst 4, 1) := dk_7 (dk_at dksX8_init_6 0 rfl rfl)
theorem dX8_init_141 : decode cX8_init 141 = .ok (.newarray .boolean, 2) := dk_188_4 (dk_at dksX8_init_6 1 rfl rfl)
theorem dX8_init_143 : decode cX8_init 143 = .ok (.putfield 68, 3) := dk_181 0 68 (dk_at dksX8_init_6 3 rfl rfl)
theorem dX8_init_146 : decode cX8_init 146 = .ok (.aload_n 0, 1) := dk_42 (dk_at dksX8_init_6 6 rfl rfl)
theorem dX8_init_147 : decode cX8_init 147 = .ok (.iconst 4, 1) := dk_7 (dk_at dksX8_init_6 7 rfl rfl)
theorem dX8_init_148 : decode cX8_init 148 = .ok (.newarray .int, 2) := dk_188_10 (dk_at dksX8_init_6 8 rfl rfl)
theorem dX8_init_150 : decode cX8_init 150 = .ok (.putfield 72, 3) := dk_181 0 72 (dk_at dksX8_init_6 10 rfl rfl)
theorem dX8_init_153 : decode cX8_init 153 = .ok (.aload_n 0, 1) := dk_42 (dk_at dksX8_init_6 13 rfl rfl)
theorem dX8_init_154 : decode cX8_init 154 = .ok (.iconst 4, 1) := dk_7 (dk_at dksX8_init_6 14 rfl rfl)
theorem dX8_init_155 : decode cX8_init 155 = .ok (.newarray .int, 2) := dk_188_10 (dk_at dksX8_init_6 15 rfl rfl)
theorem dX8_init_157 : decode cX8_init 157 = .ok (.putfield 75, 3) := dk_181 0 75 (dk_at dksX8_init_6 17 rfl rfl)
theorem dX8_init_160 : decode cX8_init 160 = .ok (.aload_n 0, 1) := dk_42 (dk_at dksX8_init_6 20 rfl rfl)
theorem dX8_init_161 : decode cX8_init 161 = .ok (.sipush 160, 3) := dk_17 0 160 (dk_at dksX8_init_6 21 rfl rfl)
theorem dX8_init_164 : decode cX8_init 164 = .ok (.newarray .int, 2) := dk_188_10 (dk_at dksX8_init_7 0 rfl rfl)
theorem dX8_init_166 : decode cX8_init 166 = .ok (.putfield 78, 3) := dk_181 0 78 (dk_at dksX8_init_7 2 rfl rfl)
theorem dX8_init_169 : decode cX8_init 169 = .ok (.aload_n 0, 1) := dk_42 (dk_at dksX8_init_7 5 rfl rfl)
theorem dX8_init_170 : decode cX8_init 170 = .ok (.iconst 0, 1) := dk_3 (dk_at dksX8_init_7 6 rfl rfl)
theorem dX8_init_171 : decode cX8_init 171 = .ok (.bipush 116, 2) := dk_16 116 (dk_at dksX8_init_7 7 rfl rfl)
theorem dX8_init_173 : decode cX8_init 173 = .ok (.bipush 97, 2) := dk_16 97 (dk_at dksX8_init_7 9 rfl rfl)
theorem dX8_init_175 : decode cX8_init 175 = .ok (.bipush 107, 2) := dk_16 107 (dk_at dksX8_init_7 11 rfl rfl)
theorem dX8_init_177 : decode cX8_init 177 = .ok (.bipush 101, 2) := dk_16 101 (dk_at dksX8_init_7 13 rfl rfl)
theorem dX8_init_179 : decode cX8_init 179 = .ok (.bipush 115, 2) := dk_16 115 (dk_at dksX8_init_7 15 rfl rfl)
theorem dX8_init_181 : decode cX8_init 181 = .ok (.bipush 32, 2) := dk_16 32 (dk_at dksX8_init_7 17 rfl rfl)
theorem dX8_init_183 : decode cX8_init 183 = .ok (.bipush 103, 2) := dk_16 103 (dk_at dksX8_init_7 19 rfl rfl)
theorem dX8_init_185 : decode cX8_init 185 = .ok (.bipush 97, 2) := dk_16 97 (dk_at dksX8_init_7 21 rfl rfl)
theorem dX8_init_187 : decode cX8_init 187 = .ok (.invokevirtual 81, 3) := dk_182 0 81 (dk_at dksX8_init_8 0 rfl rfl)
theorem dX8_init_190 : decode cX8_init 190 = .ok (.aload_n 0, 1) := dk_42 (dk_at dksX8_init_8 3 rfl rfl)
theorem dX8_init_191 : decode cX8_init 191 = .ok (.bipush 8, 2) := dk_16 8 (dk_at dksX8_init_8 4 rfl rfl)
theorem dX8_init_193 : decode cX8_init 193 = .ok (.bipush 112, 2) := dk_16 112 (dk_at dksX8_init_8 6 rfl rfl)
theorem dX8_init_195 : decode cX8_init 195 = .ok (.bipush 32, 2) := dk_16 32 (dk_at dksX8_init_8 8 rfl rfl)
theorem dX8_init_197 : decode cX8_init 197 = .ok (.bipush 59, 2) := dk_16 59 (dk_at dksX8_init_8 10 rfl rfl)
theorem dX8_init_199 : decode cX8_init 199 = .ok (.bipush 32, 2) := dk_16 32 (dk_at dksX8_init_8 12 rfl rfl)
theorem dX8_init_201 : decode cX8_init 201 = .ok (.bipush 107, 2) := dk_16 107 (dk_at dksX8_init_8 14 rfl rfl)
theorem dX8_init_203 : decode cX8_init 203 = .ok (.bipush 101, 2) := dk_16 101 (dk_at dksX8_init_8 16 rfl rfl)
theorem dX8_init_205 : decode cX8_init 205 = .ok (.bipush 101, 2) := dk_16 101 (dk_at dksX8_init_8 18 rfl rfl)
theorem dX8_init_207 : decode cX8_init 207 = .ok (.bipush 112, 2) := dk_16 112 (dk_at dksX8_init_8 20 rfl rfl)
theorem dX8_init_209 : decode cX8_init 209 = .ok (.invokevirtual 81, 3) := dk_182 0 81 (dk_at dksX8_init_9 0 rfl rfl)
theorem dX8_init_212 : decode cX8_init 212 = .ok (.aload_n 0, 1) := dk_42 (dk_at dksX8_init_9 3 rfl rfl)
theorem dX8_init_213 : decode cX8_init 213 = .ok (.bipush 16, 2) := dk_16 16 (dk_at dksX8_init_9 4 rfl rfl)
theorem dX8_init_215 : decode cX8_init 215 = .ok (.bipush 115, 2) := dk_16 115 (dk_at dksX8_init_9 6 rfl rfl)
theorem dX8_init_217 : decode cX8_init 217 = .ok (.bipush 32, 2) := dk_16 32 (dk_at dksX8_init_9 8 rfl rfl)
theorem dX8_init_219 : decode cX8_init 219 = .ok (.bipush 53, 2) := dk_16 53 (dk_at dksX8_init_9 10 rfl rfl)
theorem dX8_init_221 : decode cX8_init 221 = .ok (.bipush 48, 2) := dk_16 48 (dk_at dksX8_init_9 12 rfl rfl)
theorem dX8_init_223 : decode cX8_init 223 = .ok (.bipush 32, 2) := dk_16 32 (dk_at dksX8_init_9 14 rfl rfl)
theorem dX8_init_225 : decode cX8_init 225 = .ok (.bipush 59, 2) := dk_16 59 (dk_at dksX8_init_9 16 rfl rfl)
theorem dX8_init_227 : decode cX8_init 227 = .ok (.bipush 32, 2) := dk_16 32 (dk_at dksX8_init_9 18 rfl rfl)
theorem dX8_init_229 : decode cX8_init 229 = .ok (.bipush 115, 2) := dk_16 115 (dk_at dksX8_init_9 20 rfl rfl)
theorem dX8_init_231 : decode cX8_init 231 = .ok (.invokevirtual 81, 3) := dk_182 0 81 (dk_at dksX8_init_10 0 rfl rfl)
theorem dX8_init_234 : decode cX8_init 234 = .ok (.aload_n 0, 1) := dk_42 (dk_at dksX8_init_10 3 rfl rfl)
theorem dX8_init_235 : decode cX8_init 235 = .ok (.bipush 24, 2) := dk_16 24 (dk_at dksX8_init_10 4 rfl rfl)
theorem dX8_init_237 : decode cX8_init 237 = .ok (.bipush 104, 2) := dk_16 104 (dk_at dksX8_init_10 6 rfl rfl)
theorem dX8_init_239 : decode cX8_init 239 = .ok (.bipush 97, 2) := dk_16 97 (dk_at dksX8_init_10 8 rfl rfl)
theorem dX8_init_241 : decode cX8_init 241 = .ok (.bipush 107, 2) := dk_16 107 (dk_at dksX8_init_10 10 rfl rfl)
theorem dX8_init_243 : decode cX8_init 243 = .ok (.bipush 101, 2) := dk_16 101 (dk_at dksX8_init_10 12 rfl rfl)
theorem dX8_init_245 : decode cX8_init 245 = .ok (.bipush 115, 2) := dk_16 115 (dk_at dksX8_init_10 14 rfl rfl)
theorem dX8_init_247 : decode cX8_init 247 = .ok (.bipush 32, 2) := dk_16 32 (dk_at dksX8_init_10 16 rfl rfl)
theorem dX8_init_249 : decode cX8_init 249 = .ok (.bipush 48, 2) := dk_16 48 (dk_at dksX8_init_10 18 rfl rfl)
theorem dX8_init_251 : decode cX8_init 251 = .ok (.bipush 32, 2) := dk_16 32 (dk_at dksX8_init_10 20 rfl rfl)
theorem dX8_init_253 : decode cX8_init 253 = .ok (.invokevirtual 81, 3) := dk_182 0 81 (dk_at dksX8_init_11 0 rfl rfl)
theorem dX8_init_256 : decode cX8_init 256 = .ok (.aload_n 0, 1) := dk_42 (dk_at dksX8_init_11 3 rfl rfl)
theorem dX8_init_257 : decode cX8_init 257 = .ok (.bipush 32, 2) := dk_16 32 (dk_at dksX8_init_11 4 rfl rfl)
theorem dX8_init_259 : decode cX8_init 259 = .ok (.bipush 59, 2) := dk_16 59 (dk_at dksX8_init_11 6 rfl rfl)
theorem dX8_init_261 : decode cX8_init 261 = .ok (.bipush 32, 2) := dk_16 32 (dk_at dksX8_init_11 8 rfl rfl)
theorem dX8_init_263 : decode cX8_init 263 = .ok (.bipush 32, 2) := dk_16 32 (dk_at dksX8_init_11 10 rfl rfl)
theorem dX8_init_265 : decode cX8_init 265 = .ok (.bipush 32, 2) := dk_16 32 (dk_at dksX8_init_11 12 rfl rfl)
theorem dX8_init_267 : decode cX8_init 267 = .ok (.bipush 32, 2) := dk_16 32 (dk_at dksX8_init_11 14 rfl rfl)
theorem dX8_init_269 : decode cX8_init 269 = .ok (.bipush 32, 2) := dk_16 32 (dk_at dksX8_init_11 16 rfl rfl)
theorem dX8_init_271 : decode cX8_init 271 = .ok (.bipush 32, 2) := dk_16 32 (dk_at dksX8_init_11 18 rfl rfl)
theorem dX8_init_273 : decode cX8_init 273 = .ok (.bipush 32, 2) := dk_16 32 (dk_at dksX8_init_11 20 rfl rfl)
theorem dX8_init_275 : decode cX8_init 275 = .ok (.invokevirtual 81, 3) := dk_182 0 81 (dk_at dksX8_init_12 0 rfl rfl)
theorem dX8_init_278 : decode cX8_init 278 = .ok (.aload_n 0, 1) := dk_42 (dk_at dksX8_init_12 3 rfl rfl)
theorem dX8_init_279 : decode cX8_init 279 = .ok (.getfield 17, 3) := dk_180 0 17 (dk_at dksX8_init_12 4 rfl rfl)
theorem dX8_init_282 : decode cX8_init 282 = .ok (.iconst 0, 1) := dk_3 (dk_at dksX8_init_12 7 rfl rfl)
theorem dX8_init_283 : decode cX8_init 283 = .ok (.bipush 40, 2) := dk_16 40 (dk_at dksX8_init_12 8 rfl rfl)
theorem dX8_init_285 : decode cX8_init 285 = .ok (.iastore, 1) := dk_79 (dk_at dksX8_init_12 10 rfl rfl)
theorem dX8_init_286 : decode cX8_init 286 = .ok (.aload_n 0, 1) := dk_42 (dk_at dksX8_init_12 11 rfl rfl)
theorem dX8_init_287 : decode cX8_init 287 = .ok (.iconst 1, 1) := dk_4 (dk_at dksX8_init_12 12 rfl rfl)
theorem dX8_init_288 : decode cX8_init 288 = .ok (.putfield 85, 3) := dk_181 0 85 (dk_at dksX8_init_12 13 rfl rfl)
theorem dX8_init_291 : decode cX8_init 291 = .ok (.return_, 1) := dk_177 (dk_at dksX8_init_12 16 rfl rfl)
abbrev cX8_spell : ByteArray := prog_16_method_5_code
def yX8_spell : MethodName := ⟨RX8, "spell", "(IIIIIIIII)V"⟩
def dkwX8_spell_3 : List UInt8 := [27, 16, 7, 96, 21, 9, 79, 177]
abbrev dktX8_spell_3 : List UInt8 := dkwX8_spell_3 ++ []
def dkwX8_spell_2 : List UInt8 := [180, 0, 13, 27, 8, 96, 21, 7, 79, 42, 180, 0, 13, 27, 16, 6, 96, 21, 8, 79, 42, 180, 0, 13]
abbrev dktX8_spell_2 : List UInt8 := dkwX8_spell_2 ++ dktX8_spell_3
def dkwX8_spell_1 : List UInt8 := [21, 4, 79, 42, 180, 0, 13, 27, 6, 96, 21, 5, 79, 42, 180, 0, 13, 27, 7, 96, 21, 6, 79, 42]
abbrev dktX8_spell_1 : List UInt8 := dkwX8_spell_1 ++ dktX8_spell_2
def dkwX8_spell_0 : List UInt8 := [42, 180, 0, 13, 27, 28, 79, 42, 180, 0, 13, 27, 4, 96, 29, 79, 42, 180, 0, 13, 27, 5, 96]
abbrev dktX8_spell_0 : List UInt8 := dkwX8_spell_0 ++ dktX8_spell_1
theorem dksX8_spell_0 : cX8_spell.data.toList.drop 0 = dktX8_spell_0 := by decide +kernel
theorem dksX8_spell_1 : cX8_spell.data.toList.drop 23 = dktX8_spell_1 := dk_seg dksX8_spell_0 23 rfl rfl
theorem dksX8_spell_2 : cX8_spell.data.toList.drop 47 = dktX8_spell_2 := dk_seg dksX8_spell_1 24 rfl rfl
theorem dksX8_spell_3 : cX8_spell.data.toList.drop 71 = dktX8_spell_3 := dk_seg dksX8_spell_2 24 rfl rfl
theorem dX8_spell_0 : decode cX8_spell 0 = .ok (.aload_n 0, 1) := dk_42 (dk_at dksX8_spell_0 0 rfl rfl)
theorem dX8_spell_1 : decode cX8_spell 1 = .ok (.getfield 13, 3) := dk_180 0 13 (dk_at dksX8_spell_0 1 rfl rfl)
theorem dX8_spell_4 : decode cX8_spell 4 = .ok (.iload_n 1, 1) := dk_27 (dk_at dksX8_spell_0 4 rfl rfl)
theorem dX8_spell_5 : decode cX8_spell 5 = .ok (.iload_n 2, 1) := dk_28 (dk_at dksX8_spell_0 5 rfl rfl)
theorem dX8_spell_6 : decode cX8_spell 6 = .ok (.iastore, 1) := dk_79 (dk_at dksX8_spell_0 6 rfl rfl)
theorem dX8_spell_7 : decode cX8_spell 7 = .ok (.aload_n 0, 1) := dk_42 (dk_at dksX8_spell_0 7 rfl rfl)
theorem dX8_spell_8 : decode cX8_spell 8 = .ok (.getfield 13, 3) := dk_180 0 13 (dk_at dksX8_spell_0 8 rfl rfl)
theorem dX8_spell_11 : decode cX8_spell 11 = .ok (.iload_n 1, 1) := dk_27 (dk_at dksX8_spell_0 11 rfl rfl)
theorem dX8_spell_12 : decode cX8_spell 12 = .ok (.iconst 1, 1) := dk_4 (dk_at dksX8_spell_0 12 rfl rfl)
theorem dX8_spell_13 : decode cX8_spell 13 = .ok (.iadd, 1) := dk_96 (dk_at dksX8_spell_0 13 rfl rfl)
theorem dX8_spell_14 : decode cX8_spell 14 = .ok (.iload_n 3, 1) := dk_29 (dk_at dksX8_spell_0 14 rfl rfl)
theorem dX8_spell_15 : decode cX8_spell 15 = .ok (.iastore, 1) := dk_79 (dk_at dksX8_spell_0 15 rfl rfl)
theorem dX8_spell_16 : decode cX8_spell 16 = .ok (.aload_n 0, 1) := dk_42 (dk_at dksX8_spell_0 16 rfl rfl)
theorem dX8_spell_17 : decode cX8_spell 17 = .ok (.getfield 13, 3) := dk_180 0 13 (dk_at dksX8_spell_0 17 rfl rfl)
theorem dX8_spell_20 : decode cX8_spell 20 = .ok (.iload_n 1, 1) := dk_27 (dk_at dksX8_spell_0 20 rfl rfl)
theorem dX8_spell_21 : decode cX8_spell 21 = .ok (.iconst 2, 1) := dk_5 (dk_at dksX8_spell_0 21 rfl rfl)
theorem dX8_spell_22 : decode cX8_spell 22 = .ok (.iadd, 1) := dk_96 (dk_at dksX8_spell_0 22 rfl rfl)
theorem dX8_spell_23 : decode cX8_spell 23 = .ok (.iload 4, 2) := dk_21 4 (dk_at dksX8_spell_1 0 rfl rfl)
theorem dX8_spell_25 : decode cX8_spell 25 = .ok (.iastore, 1) := dk_79 (dk_at dksX8_spell_1 2 rfl rfl)
theorem dX8_spell_26 : decode cX8_spell 26 = .ok (.aload_n 0, 1) := dk_42 (dk_at dksX8_spell_1 3 rfl rfl)
theorem dX8_spell_27 : decode cX8_spell 27 = .ok (.getfield 13, 3) := dk_180 0 13 (dk_at dksX8_spell_1 4 rfl rfl)
theorem dX8_spell_30 : decode cX8_spell 30 = .ok (.iload_n 1, 1) := dk_27 (dk_at dksX8_spell_1 7 rfl rfl)
theorem dX8_spell_31 : decode cX8_spell 31 = .ok (.iconst 3, 1) := dk_6 (dk_at dksX8_spell_1 8 rfl rfl)
theorem dX8_spell_32 : decode cX8_spell 32 = .ok (.iadd, 1) := dk_96 (dk_at dksX8_spell_1 9 rfl rfl)
theorem dX8_spell_33 : decode cX8_spell 33 = .ok (.iload 5, 2) := dk_21 5 (dk_at dksX8_spell_1 10 rfl rfl)
theorem dX8_spell_35 : decode cX8_spell 35 = .ok (.iastore, 1) := dk_79 (dk_at dksX8_spell_1 12 rfl rfl)
theorem dX8_spell_36 : decode cX8_spell 36 = .ok (.aload_n 0, 1) := dk_42 (dk_at dksX8_spell_1 13 rfl rfl)
theorem dX8_spell_37 : decode cX8_spell 37 = .ok (.getfield 13, 3) := dk_180 0 13 (dk_at dksX8_spell_1 14 rfl rfl)
theorem dX8_spell_40 : decode cX8_spell 40 = .ok (.iload_n 1, 1) := dk_27 (dk_at dksX8_spell_1 17 rfl rfl)
theorem dX8_spell_41 : decode cX8_spell 41 = .ok (.iconst 4, 1) := dk_7 (dk_at dksX8_spell_1 18 rfl rfl)
theorem dX8_spell_42 : decode cX8_spell 42 = .ok (.iadd, 1) := dk_96 (dk_at dksX8_spell_1 19 rfl rfl)
theorem dX8_spell_43 : decode cX8_spell 43 = .ok (.iload 6, 2) := dk_21 6 (dk_at dksX8_spell_1 20 rfl rfl)
theorem dX8_spell_45 : decode cX8_spell 45 = .ok (.iastore, 1) := dk_79 (dk_at dksX8_spell_1 22 rfl rfl)
theorem dX8_spell_46 : decode cX8_spell 46 = .ok (.aload_n 0, 1) := dk_42 (dk_at dksX8_spell_1 23 rfl rfl)
theorem dX8_spell_47 : decode cX8_spell 47 = .ok (.getfield 13, 3) := dk_180 0 13 (dk_at dksX8_spell_2 0 rfl rfl)
theorem dX8_spell_50 : decode cX8_spell 50 = .ok (.iload_n 1, 1) := dk_27 (dk_at dksX8_spell_2 3 rfl rfl)
theorem dX8_spell_51 : decode cX8_spell 51 = .ok (.iconst 5, 1) := dk_8 (dk_at dksX8_spell_2 4 rfl rfl)
theorem dX8_spell_52 : decode cX8_spell 52 = .ok (.iadd, 1) := dk_96 (dk_at dksX8_spell_2 5 rfl rfl)
theorem dX8_spell_53 : decode cX8_spell 53 = .ok (.iload 7, 2) := dk_21 7 (dk_at dksX8_spell_2 6 rfl rfl)
theorem dX8_spell_55 : decode cX8_spell 55 = .ok (.iastore, 1) := dk_79 (dk_at dksX8_spell_2 8 rfl rfl)
theorem dX8_spell_56 : decode cX8_spell 56 = .ok (.aload_n 0, 1) := dk_42 (dk_at dksX8_spell_2 9 rfl rfl)
theorem dX8_spell_57 : decode cX8_spell 57 = .ok (.getfield 13, 3) := dk_180 0 13 (dk_at dksX8_spell_2 10 rfl rfl)
theorem dX8_spell_60 : decode cX8_spell 60 = .ok (.iload_n 1, 1) := dk_27 (dk_at dksX8_spell_2 13 rfl rfl)
theorem dX8_spell_61 : decode cX8_spell 61 = .ok (.bipush 6, 2) := dk_16 6 (dk_at dksX8_spell_2 14 rfl rfl)
theorem dX8_spell_63 : decode cX8_spell 63 = .ok (.iadd, 1) := dk_96 (dk_at dksX8_spell_2 16 rfl rfl)
theorem dX8_spell_64 : decode cX8_spell 64 = .ok (.iload 8, 2) := dk_21 8 (dk_at dksX8_spell_2 17 rfl rfl)
theorem dX8_spell_66 : decode cX8_spell 66 = .ok (.iastore, 1) := dk_79 (dk_at dksX8_spell_2 19 rfl rfl)
theorem dX8_spell_67 : decode cX8_spell 67 = .ok (.aload_n 0, 1) := dk_42 (dk_at dksX8_spell_2 20 rfl rfl)
theorem dX8_spell_68 : decode cX8_spell 68 = .ok (.getfield 13, 3) := dk_180 0 13 (dk_at dksX8_spell_2 21 rfl rfl)
theorem dX8_spell_71 : decode cX8_spell 71 = .ok (.iload_n 1, 1) := dk_27 (dk_at dksX8_spell_3 0 rfl rfl)
theorem dX8_spell_72 : decode cX8_spell 72 = .ok (.bipush 7, 2) := dk_16 7 (dk_at dksX8_spell_3 1 rfl rfl)
theorem dX8_spell_74 : decode cX8_spell 74 = .ok (.iadd, 1) := dk_96 (dk_at dksX8_spell_3 3 rfl rfl)
theorem dX8_spell_75 : decode cX8_spell 75 = .ok (.iload 9, 2) := dk_21 9 (dk_at dksX8_spell_3 4 rfl rfl)
theorem dX8_spell_77 : decode cX8_spell 77 = .ok (.iastore, 1) := dk_79 (dk_at dksX8_spell_3 6 rfl rfl)
theorem dX8_spell_78 : decode cX8_spell 78 = .ok (.return_, 1) := dk_177 (dk_at dksX8_spell_3 7 rfl rfl)
abbrev cX8_lay : ByteArray := prog_16_method_8_code
def yX8_lay : MethodName := ⟨RX8, "lay", "(III)I"⟩
def dkwX8_lay_2 : List UInt8 := [27, 28, 79, 42, 27, 182, 0, 103, 172]
abbrev dktX8_lay_2 : List UInt8 := dkwX8_lay_2 ++ []
def dkwX8_lay_1 : List UInt8 := [120, 4, 100, 133, 184, 0, 91, 154, 0, 6, 16, 254, 172, 42, 180, 0, 23, 27, 29, 79, 42, 180, 0, 26]
abbrev dktX8_lay_1 : List UInt8 := dkwX8_lay_1 ++ dktX8_lay_2
def dkwX8_lay_0 : List UInt8 := [27, 184, 0, 97, 153, 0, 30, 28, 133, 9, 20, 0, 101, 184, 0, 91, 153, 0, 18, 29, 133, 9, 4, 28]
abbrev dktX8_lay_0 : List UInt8 := dkwX8_lay_0 ++ dktX8_lay_1
theorem dksX8_lay_0 : cX8_lay.data.toList.drop 0 = dktX8_lay_0 := by decide +kernel
theorem dksX8_lay_1 : cX8_lay.data.toList.drop 24 = dktX8_lay_1 := dk_seg dksX8_lay_0 24 rfl rfl
theorem dksX8_lay_2 : cX8_lay.data.toList.drop 48 = dktX8_lay_2 := dk_seg dksX8_lay_1 24 rfl rfl
theorem dX8_lay_0 : decode cX8_lay 0 = .ok (.iload_n 1, 1) := dk_27 (dk_at dksX8_lay_0 0 rfl rfl)
theorem dX8_lay_1 : decode cX8_lay 1 = .ok (.invokestatic 97, 3) := dk_184 0 97 (dk_at dksX8_lay_0 1 rfl rfl)
theorem dX8_lay_4 : decode cX8_lay 4 = .ok (.ifCond .eq 30, 3) := dk_153 0 30 (dk_at dksX8_lay_0 4 rfl rfl)
theorem dX8_lay_7 : decode cX8_lay 7 = .ok (.iload_n 2, 1) := dk_28 (dk_at dksX8_lay_0 7 rfl rfl)
theorem dX8_lay_8 : decode cX8_lay 8 = .ok (.i2l, 1) := dk_133 (dk_at dksX8_lay_0 8 rfl rfl)
theorem dX8_lay_9 : decode cX8_lay 9 = .ok (.lconst 0, 1) := dk_9 (dk_at dksX8_lay_0 9 rfl rfl)
theorem dX8_lay_10 : decode cX8_lay 10 = .ok (.ldc2_w 101, 3) := dk_20 0 101 (dk_at dksX8_lay_0 10 rfl rfl)
theorem dX8_lay_13 : decode cX8_lay 13 = .ok (.invokestatic 91, 3) := dk_184 0 91 (dk_at dksX8_lay_0 13 rfl rfl)
theorem dX8_lay_16 : decode cX8_lay 16 = .ok (.ifCond .eq 18, 3) := dk_153 0 18 (dk_at dksX8_lay_0 16 rfl rfl)
theorem dX8_lay_19 : decode cX8_lay 19 = .ok (.iload_n 3, 1) := dk_29 (dk_at dksX8_lay_0 19 rfl rfl)
theorem dX8_lay_20 : decode cX8_lay 20 = .ok (.i2l, 1) := dk_133 (dk_at dksX8_lay_0 20 rfl rfl)
theorem dX8_lay_21 : decode cX8_lay 21 = .ok (.lconst 0, 1) := dk_9 (dk_at dksX8_lay_0 21 rfl rfl)
theorem dX8_lay_22 : decode cX8_lay 22 = .ok (.iconst 1, 1) := dk_4 (dk_at dksX8_lay_0 22 rfl rfl)
theorem dX8_lay_23 : decode cX8_lay 23 = .ok (.iload_n 2, 1) := dk_28 (dk_at dksX8_lay_0 23 rfl rfl)
theorem dX8_lay_24 : decode cX8_lay 24 = .ok (.ishl, 1) := dk_120 (dk_at dksX8_lay_1 0 rfl rfl)
theorem dX8_lay_25 : decode cX8_lay 25 = .ok (.iconst 1, 1) := dk_4 (dk_at dksX8_lay_1 1 rfl rfl)
theorem dX8_lay_26 : decode cX8_lay 26 = .ok (.isub, 1) := dk_100 (dk_at dksX8_lay_1 2 rfl rfl)
theorem dX8_lay_27 : decode cX8_lay 27 = .ok (.i2l, 1) := dk_133 (dk_at dksX8_lay_1 3 rfl rfl)
theorem dX8_lay_28 : decode cX8_lay 28 = .ok (.invokestatic 91, 3) := dk_184 0 91 (dk_at dksX8_lay_1 4 rfl rfl)
theorem dX8_lay_31 : decode cX8_lay 31 = .ok (.ifCond .ne 6, 3) := dk_154 0 6 (dk_at dksX8_lay_1 7 rfl rfl)
theorem dX8_lay_34 : decode cX8_lay 34 = .ok (.bipush (-2), 2) := dk_16 254 (dk_at dksX8_lay_1 10 rfl rfl)
theorem dX8_lay_36 : decode cX8_lay 36 = .ok (.ireturn, 1) := dk_172 (dk_at dksX8_lay_1 12 rfl rfl)
theorem dX8_lay_37 : decode cX8_lay 37 = .ok (.aload_n 0, 1) := dk_42 (dk_at dksX8_lay_1 13 rfl rfl)
theorem dX8_lay_38 : decode cX8_lay 38 = .ok (.getfield 23, 3) := dk_180 0 23 (dk_at dksX8_lay_1 14 rfl rfl)
theorem dX8_lay_41 : decode cX8_lay 41 = .ok (.iload_n 1, 1) := dk_27 (dk_at dksX8_lay_1 17 rfl rfl)
theorem dX8_lay_42 : decode cX8_lay 42 = .ok (.iload_n 3, 1) := dk_29 (dk_at dksX8_lay_1 18 rfl rfl)
theorem dX8_lay_43 : decode cX8_lay 43 = .ok (.iastore, 1) := dk_79 (dk_at dksX8_lay_1 19 rfl rfl)
theorem dX8_lay_44 : decode cX8_lay 44 = .ok (.aload_n 0, 1) := dk_42 (dk_at dksX8_lay_1 20 rfl rfl)
theorem dX8_lay_45 : decode cX8_lay 45 = .ok (.getfield 26, 3) := dk_180 0 26 (dk_at dksX8_lay_1 21 rfl rfl)
theorem dX8_lay_48 : decode cX8_lay 48 = .ok (.iload_n 1, 1) := dk_27 (dk_at dksX8_lay_2 0 rfl rfl)
theorem dX8_lay_49 : decode cX8_lay 49 = .ok (.iload_n 2, 1) := dk_28 (dk_at dksX8_lay_2 1 rfl rfl)
theorem dX8_lay_50 : decode cX8_lay 50 = .ok (.iastore, 1) := dk_79 (dk_at dksX8_lay_2 2 rfl rfl)
theorem dX8_lay_51 : decode cX8_lay 51 = .ok (.aload_n 0, 1) := dk_42 (dk_at dksX8_lay_2 3 rfl rfl)
theorem dX8_lay_52 : decode cX8_lay 52 = .ok (.iload_n 1, 1) := dk_27 (dk_at dksX8_lay_2 4 rfl rfl)
theorem dX8_lay_53 : decode cX8_lay 53 = .ok (.invokevirtual 103, 3) := dk_182 0 103 (dk_at dksX8_lay_2 5 rfl rfl)
theorem dX8_lay_56 : decode cX8_lay 56 = .ok (.ireturn, 1) := dk_172 (dk_at dksX8_lay_2 8 rfl rfl)
abbrev cX8_isRow : ByteArray := prog_16_method_7_code
def yX8_isRow : MethodName := ⟨RX8, "isRow", "(I)Z"⟩
def dkwX8_isRow_0 : List UInt8 := [26, 133, 9, 20, 0, 95, 184, 0, 91, 172]
abbrev dktX8_isRow_0 : List UInt8 := dkwX8_isRow_0 ++ []
theorem dksX8_isRow_0 : cX8_isRow.data.toList.drop 0 = dktX8_isRow_0 := by decide +kernel
theorem dX8_isRow_0 : decode cX8_isRow 0 = .ok (.iload_n 0, 1) := dk_26 (dk_at dksX8_isRow_0 0 rfl rfl)
theorem dX8_isRow_1 : decode cX8_isRow 1 = .ok (.i2l, 1) := dk_133 (dk_at dksX8_isRow_0 1 rfl rfl)
theorem dX8_isRow_2 : decode cX8_isRow 2 = .ok (.lconst 0, 1) := dk_9 (dk_at dksX8_isRow_0 2 rfl rfl)
theorem dX8_isRow_3 : decode cX8_isRow 3 = .ok (.ldc2_w 95, 3) := dk_20 0 95 (dk_at dksX8_isRow_0 3 rfl rfl)
theorem dX8_isRow_6 : decode cX8_isRow 6 = .ok (.invokestatic 91, 3) := dk_184 0 91 (dk_at dksX8_isRow_0 6 rfl rfl)
theorem dX8_isRow_9 : decode cX8_isRow 9 = .ok (.ireturn, 1) := dk_172 (dk_at dksX8_isRow_0 9 rfl rfl)
abbrev cX8_in : ByteArray := prog_16_method_2_code
def yX8_in : MethodName := ⟨RX8, "in", "(JJJ)Z"⟩
def dkwX8_in_0 : List UInt8 := [30, 32, 148, 155, 0, 14, 30, 22, 4, 148, 157, 0, 7, 4, 167, 0, 4, 3, 172]
abbrev dktX8_in_0 : List UInt8 := dkwX8_in_0 ++ []
theorem dksX8_in_0 : cX8_in.data.toList.drop 0 = dktX8_in_0 := by decide +kernel
theorem dX8_in_0 : decode cX8_in 0 = .ok (.lload_n 0, 1) := dk_30 (dk_at dksX8_in_0 0 rfl rfl)
theorem dX8_in_1 : decode cX8_in 1 = .ok (.lload_n 2, 1) := dk_32 (dk_at dksX8_in_0 1 rfl rfl)
theorem dX8_in_2 : decode cX8_in 2 = .ok (.lcmp, 1) := dk_148 (dk_at dksX8_in_0 2 rfl rfl)
theorem dX8_in_3 : decode cX8_in 3 = .ok (.ifCond .lt 14, 3) := dk_155 0 14 (dk_at dksX8_in_0 3 rfl rfl)
theorem dX8_in_6 : decode cX8_in 6 = .ok (.lload_n 0, 1) := dk_30 (dk_at dksX8_in_0 6 rfl rfl)
theorem dX8_in_7 : decode cX8_in 7 = .ok (.lload 4, 2) := dk_22 4 (dk_at dksX8_in_0 7 rfl rfl)
theorem dX8_in_9 : decode cX8_in 9 = .ok (.lcmp, 1) := dk_148 (dk_at dksX8_in_0 9 rfl rfl)
theorem dX8_in_10 : decode cX8_in 10 = .ok (.ifCond .gt 7, 3) := dk_157 0 7 (dk_at dksX8_in_0 10 rfl rfl)
theorem dX8_in_13 : decode cX8_in 13 = .ok (.iconst 1, 1) := dk_4 (dk_at dksX8_in_0 13 rfl rfl)
theorem dX8_in_14 : decode cX8_in 14 = .ok (.goto 4, 3) := dk_167 0 4 (dk_at dksX8_in_0 14 rfl rfl)
theorem dX8_in_17 : decode cX8_in 17 = .ok (.iconst 0, 1) := dk_3 (dk_at dksX8_in_0 17 rfl rfl)
theorem dX8_in_18 : decode cX8_in 18 = .ok (.ireturn, 1) := dk_172 (dk_at dksX8_in_0 18 rfl rfl)
abbrev cX8_leftOf : ByteArray := prog_16_method_10_code
def yX8_leftOf : MethodName := ⟨RX8, "leftOf", "(I)I"⟩
def dkwX8_leftOf_0 : List UInt8 := [42, 180, 0, 26, 27, 46, 42, 180, 0, 23, 27, 46, 184, 0, 107, 100, 172]
abbrev dktX8_leftOf_0 : List UInt8 := dkwX8_leftOf_0 ++ []
theorem dksX8_leftOf_0 : cX8_leftOf.data.toList.drop 0 = dktX8_leftOf_0 := by decide +kernel
theorem dX8_leftOf_0 : decode cX8_leftOf 0 = .ok (.aload_n 0, 1) := dk_42 (dk_at dksX8_leftOf_0 0 rfl rfl)
theorem dX8_leftOf_1 : decode cX8_leftOf 1 = .ok (.getfield 26, 3) := dk_180 0 26 (dk_at dksX8_leftOf_0 1 rfl rfl)
theorem dX8_leftOf_4 : decode cX8_leftOf 4 = .ok (.iload_n 1, 1) := dk_27 (dk_at dksX8_leftOf_0 4 rfl rfl)
theorem dX8_leftOf_5 : decode cX8_leftOf 5 = .ok (.iaload, 1) := dk_46 (dk_at dksX8_leftOf_0 5 rfl rfl)
theorem dX8_leftOf_6 : decode cX8_leftOf 6 = .ok (.aload_n 0, 1) := dk_42 (dk_at dksX8_leftOf_0 6 rfl rfl)
theorem dX8_leftOf_7 : decode cX8_leftOf 7 = .ok (.getfield 23, 3) := dk_180 0 23 (dk_at dksX8_leftOf_0 7 rfl rfl)
theorem dX8_leftOf_10 : decode cX8_leftOf 10 = .ok (.iload_n 1, 1) := dk_27 (dk_at dksX8_leftOf_0 10 rfl rfl)
theorem dX8_leftOf_11 : decode cX8_leftOf 11 = .ok (.iaload, 1) := dk_46 (dk_at dksX8_leftOf_0 11 rfl rfl)
theorem dX8_leftOf_12 : decode cX8_leftOf 12 = .ok (.invokestatic 107, 3) := dk_184 0 107 (dk_at dksX8_leftOf_0 12 rfl rfl)
theorem dX8_leftOf_15 : decode cX8_leftOf 15 = .ok (.isub, 1) := dk_100 (dk_at dksX8_leftOf_0 15 rfl rfl)
theorem dX8_leftOf_16 : decode cX8_leftOf 16 = .ok (.ireturn, 1) := dk_172 (dk_at dksX8_leftOf_0 16 rfl rfl)
abbrev cX8_bitsOf : ByteArray := prog_16_method_9_code
def yX8_bitsOf : MethodName := ⟨RX8, "bitsOf", "(I)I"⟩
def dkwX8_bitsOf_0 : List UInt8 := [3, 60, 26, 61, 28, 153, 0, 15, 132, 1, 1, 28, 28, 4, 100, 126, 61, 167, 255, 243, 27, 172]
abbrev dktX8_bitsOf_0 : List UInt8 := dkwX8_bitsOf_0 ++ []
theorem dksX8_bitsOf_0 : cX8_bitsOf.data.toList.drop 0 = dktX8_bitsOf_0 := by decide +kernel
theorem dX8_bitsOf_0 : decode cX8_bitsOf 0 = .ok (.iconst 0, 1) := dk_3 (dk_at dksX8_bitsOf_0 0 rfl rfl)
theorem dX8_bitsOf_1 : decode cX8_bitsOf 1 = .ok (.istore_n 1, 1) := dk_60 (dk_at dksX8_bitsOf_0 1 rfl rfl)
theorem dX8_bitsOf_2 : decode cX8_bitsOf 2 = .ok (.iload_n 0, 1) := dk_26 (dk_at dksX8_bitsOf_0 2 rfl rfl)
theorem dX8_bitsOf_3 : decode cX8_bitsOf 3 = .ok (.istore_n 2, 1) := dk_61 (dk_at dksX8_bitsOf_0 3 rfl rfl)
theorem dX8_bitsOf_4 : decode cX8_bitsOf 4 = .ok (.iload_n 2, 1) := dk_28 (dk_at dksX8_bitsOf_0 4 rfl rfl)
theorem dX8_bitsOf_5 : decode cX8_bitsOf 5 = .ok (.ifCond .eq 15, 3) := dk_153 0 15 (dk_at dksX8_bitsOf_0 5 rfl rfl)
theorem dX8_bitsOf_8 : decode cX8_bitsOf 8 = .ok (.iinc 1 1, 3) := dk_132 1 1 (dk_at dksX8_bitsOf_0 8 rfl rfl)
theorem dX8_bitsOf_11 : decode cX8_bitsOf 11 = .ok (.iload_n 2, 1) := dk_28 (dk_at dksX8_bitsOf_0 11 rfl rfl)
theorem dX8_bitsOf_12 : decode cX8_bitsOf 12 = .ok (.iload_n 2, 1) := dk_28 (dk_at dksX8_bitsOf_0 12 rfl rfl)
theorem dX8_bitsOf_13 : decode cX8_bitsOf 13 = .ok (.iconst 1, 1) := dk_4 (dk_at dksX8_bitsOf_0 13 rfl rfl)
theorem dX8_bitsOf_14 : decode cX8_bitsOf 14 = .ok (.isub, 1) := dk_100 (dk_at dksX8_bitsOf_0 14 rfl rfl)
theorem dX8_bitsOf_15 : decode cX8_bitsOf 15 = .ok (.iand, 1) := dk_126 (dk_at dksX8_bitsOf_0 15 rfl rfl)
theorem dX8_bitsOf_16 : decode cX8_bitsOf 16 = .ok (.istore_n 2, 1) := dk_61 (dk_at dksX8_bitsOf_0 16 rfl rfl)
theorem dX8_bitsOf_17 : decode cX8_bitsOf 17 = .ok (.goto (-13), 3) := dk_167 255 243 (dk_at dksX8_bitsOf_0 17 rfl rfl)
theorem dX8_bitsOf_20 : decode cX8_bitsOf 20 = .ok (.iload_n 1, 1) := dk_27 (dk_at dksX8_bitsOf_0 20 rfl rfl)
theorem dX8_bitsOf_21 : decode cX8_bitsOf 21 = .ok (.ireturn, 1) := dk_172 (dk_at dksX8_bitsOf_0 21 rfl rfl)
abbrev cX8_set : ByteArray := prog_16_method_12_code
def yX8_set : MethodName := ⟨RX8, "set", "(III)I"⟩
def dkwX8_set_2 : List UInt8 := [54, 4, 42, 27, 28, 29, 182, 0, 122, 21, 4, 172]
abbrev dktX8_set_2 : List UInt8 := dkwX8_set_2 ++ []
def dkwX8_set_1 : List UInt8 := [29, 133, 9, 27, 184, 0, 115, 133, 184, 0, 91, 154, 0, 6, 16, 254, 172, 42, 28, 27, 182, 0, 118]
abbrev dktX8_set_1 : List UInt8 := dkwX8_set_1 ++ dktX8_set_2
def dkwX8_set_0 : List UInt8 := [27, 133, 9, 20, 0, 110, 184, 0, 91, 153, 0, 29, 27, 158, 0, 11, 42, 28, 182, 0, 112, 153, 0, 17]
abbrev dktX8_set_0 : List UInt8 := dkwX8_set_0 ++ dktX8_set_1
theorem dksX8_set_0 : cX8_set.data.toList.drop 0 = dktX8_set_0 := by decide +kernel
theorem dksX8_set_1 : cX8_set.data.toList.drop 24 = dktX8_set_1 := dk_seg dksX8_set_0 24 rfl rfl
theorem dksX8_set_2 : cX8_set.data.toList.drop 47 = dktX8_set_2 := dk_seg dksX8_set_1 23 rfl rfl
theorem dX8_set_0 : decode cX8_set 0 = .ok (.iload_n 1, 1) := dk_27 (dk_at dksX8_set_0 0 rfl rfl)
theorem dX8_set_1 : decode cX8_set 1 = .ok (.i2l, 1) := dk_133 (dk_at dksX8_set_0 1 rfl rfl)
theorem dX8_set_2 : decode cX8_set 2 = .ok (.lconst 0, 1) := dk_9 (dk_at dksX8_set_0 2 rfl rfl)
theorem dX8_set_3 : decode cX8_set 3 = .ok (.ldc2_w 110, 3) := dk_20 0 110 (dk_at dksX8_set_0 3 rfl rfl)
theorem dX8_set_6 : decode cX8_set 6 = .ok (.invokestatic 91, 3) := dk_184 0 91 (dk_at dksX8_set_0 6 rfl rfl)
theorem dX8_set_9 : decode cX8_set 9 = .ok (.ifCond .eq 29, 3) := dk_153 0 29 (dk_at dksX8_set_0 9 rfl rfl)
theorem dX8_set_12 : decode cX8_set 12 = .ok (.iload_n 1, 1) := dk_27 (dk_at dksX8_set_0 12 rfl rfl)
theorem dX8_set_13 : decode cX8_set 13 = .ok (.ifCond .le 11, 3) := dk_158 0 11 (dk_at dksX8_set_0 13 rfl rfl)
theorem dX8_set_16 : decode cX8_set 16 = .ok (.aload_n 0, 1) := dk_42 (dk_at dksX8_set_0 16 rfl rfl)
theorem dX8_set_17 : decode cX8_set 17 = .ok (.iload_n 2, 1) := dk_28 (dk_at dksX8_set_0 17 rfl rfl)
theorem dX8_set_18 : decode cX8_set 18 = .ok (.invokevirtual 112, 3) := dk_182 0 112 (dk_at dksX8_set_0 18 rfl rfl)
theorem dX8_set_21 : decode cX8_set 21 = .ok (.ifCond .eq 17, 3) := dk_153 0 17 (dk_at dksX8_set_0 21 rfl rfl)
theorem dX8_set_24 : decode cX8_set 24 = .ok (.iload_n 3, 1) := dk_29 (dk_at dksX8_set_1 0 rfl rfl)
theorem dX8_set_25 : decode cX8_set 25 = .ok (.i2l, 1) := dk_133 (dk_at dksX8_set_1 1 rfl rfl)
theorem dX8_set_26 : decode cX8_set 26 = .ok (.lconst 0, 1) := dk_9 (dk_at dksX8_set_1 2 rfl rfl)
theorem dX8_set_27 : decode cX8_set 27 = .ok (.iload_n 1, 1) := dk_27 (dk_at dksX8_set_1 3 rfl rfl)
theorem dX8_set_28 : decode cX8_set 28 = .ok (.invokestatic 115, 3) := dk_184 0 115 (dk_at dksX8_set_1 4 rfl rfl)
theorem dX8_set_31 : decode cX8_set 31 = .ok (.i2l, 1) := dk_133 (dk_at dksX8_set_1 7 rfl rfl)
theorem dX8_set_32 : decode cX8_set 32 = .ok (.invokestatic 91, 3) := dk_184 0 91 (dk_at dksX8_set_1 8 rfl rfl)
theorem dX8_set_35 : decode cX8_set 35 = .ok (.ifCond .ne 6, 3) := dk_154 0 6 (dk_at dksX8_set_1 11 rfl rfl)
theorem dX8_set_38 : decode cX8_set 38 = .ok (.bipush (-2), 2) := dk_16 254 (dk_at dksX8_set_1 14 rfl rfl)
theorem dX8_set_40 : decode cX8_set 40 = .ok (.ireturn, 1) := dk_172 (dk_at dksX8_set_1 16 rfl rfl)
theorem dX8_set_41 : decode cX8_set 41 = .ok (.aload_n 0, 1) := dk_42 (dk_at dksX8_set_1 17 rfl rfl)
theorem dX8_set_42 : decode cX8_set 42 = .ok (.iload_n 2, 1) := dk_28 (dk_at dksX8_set_1 18 rfl rfl)
theorem dX8_set_43 : decode cX8_set 43 = .ok (.iload_n 1, 1) := dk_27 (dk_at dksX8_set_1 19 rfl rfl)
theorem dX8_set_44 : decode cX8_set 44 = .ok (.invokevirtual 118, 3) := dk_182 0 118 (dk_at dksX8_set_1 20 rfl rfl)
theorem dX8_set_47 : decode cX8_set 47 = .ok (.istore 4, 2) := dk_54 4 (dk_at dksX8_set_2 0 rfl rfl)
theorem dX8_set_49 : decode cX8_set 49 = .ok (.aload_n 0, 1) := dk_42 (dk_at dksX8_set_2 2 rfl rfl)
theorem dX8_set_50 : decode cX8_set 50 = .ok (.iload_n 1, 1) := dk_27 (dk_at dksX8_set_2 3 rfl rfl)
theorem dX8_set_51 : decode cX8_set 51 = .ok (.iload_n 2, 1) := dk_28 (dk_at dksX8_set_2 4 rfl rfl)
theorem dX8_set_52 : decode cX8_set 52 = .ok (.iload_n 3, 1) := dk_29 (dk_at dksX8_set_2 5 rfl rfl)
theorem dX8_set_53 : decode cX8_set 53 = .ok (.invokevirtual 122, 3) := dk_182 0 122 (dk_at dksX8_set_2 6 rfl rfl)
theorem dX8_set_56 : decode cX8_set 56 = .ok (.iload 4, 2) := dk_21 4 (dk_at dksX8_set_2 9 rfl rfl)
theorem dX8_set_58 : decode cX8_set 58 = .ok (.ireturn, 1) := dk_172 (dk_at dksX8_set_2 11 rfl rfl)
abbrev cX8_isOne : ByteArray := prog_16_method_6_code
def yX8_isOne : MethodName := ⟨RX8, "isOne", "(I)Z"⟩
def dkwX8_isOne_0 : List UInt8 := [27, 133, 9, 42, 180, 0, 88, 4, 100, 133, 184, 0, 91, 172]
abbrev dktX8_isOne_0 : List UInt8 := dkwX8_isOne_0 ++ []
theorem dksX8_isOne_0 : cX8_isOne.data.toList.drop 0 = dktX8_isOne_0 := by decide +kernel
theorem dX8_isOne_0 : decode cX8_isOne 0 = .ok (.iload_n 1, 1) := dk_27 (dk_at dksX8_isOne_0 0 rfl rfl)
theorem dX8_isOne_1 : decode cX8_isOne 1 = .ok (.i2l, 1) := dk_133 (dk_at dksX8_isOne_0 1 rfl rfl)
theorem dX8_isOne_2 : decode cX8_isOne 2 = .ok (.lconst 0, 1) := dk_9 (dk_at dksX8_isOne_0 2 rfl rfl)
theorem dX8_isOne_3 : decode cX8_isOne 3 = .ok (.aload_n 0, 1) := dk_42 (dk_at dksX8_isOne_0 3 rfl rfl)
theorem dX8_isOne_4 : decode cX8_isOne 4 = .ok (.getfield 88, 3) := dk_180 0 88 (dk_at dksX8_isOne_0 4 rfl rfl)
theorem dX8_isOne_7 : decode cX8_isOne 7 = .ok (.iconst 1, 1) := dk_4 (dk_at dksX8_isOne_0 7 rfl rfl)
theorem dX8_isOne_8 : decode cX8_isOne 8 = .ok (.isub, 1) := dk_100 (dk_at dksX8_isOne_0 8 rfl rfl)
theorem dX8_isOne_9 : decode cX8_isOne 9 = .ok (.i2l, 1) := dk_133 (dk_at dksX8_isOne_0 9 rfl rfl)
theorem dX8_isOne_10 : decode cX8_isOne 10 = .ok (.invokestatic 91, 3) := dk_184 0 91 (dk_at dksX8_isOne_0 10 rfl rfl)
theorem dX8_isOne_13 : decode cX8_isOne 13 = .ok (.ireturn, 1) := dk_172 (dk_at dksX8_isOne_0 13 rfl rfl)
abbrev cX8_mostOf : ByteArray := prog_16_method_11_code
def yX8_mostOf : MethodName := ⟨RX8, "mostOf", "(I)I"⟩
def dkwX8_mostOf_0 : List UInt8 := [26, 4, 160, 0, 8, 16, 9, 167, 0, 6, 17, 3, 231, 172]
abbrev dktX8_mostOf_0 : List UInt8 := dkwX8_mostOf_0 ++ []
theorem dksX8_mostOf_0 : cX8_mostOf.data.toList.drop 0 = dktX8_mostOf_0 := by decide +kernel
theorem dX8_mostOf_0 : decode cX8_mostOf 0 = .ok (.iload_n 0, 1) := dk_26 (dk_at dksX8_mostOf_0 0 rfl rfl)
theorem dX8_mostOf_1 : decode cX8_mostOf 1 = .ok (.iconst 1, 1) := dk_4 (dk_at dksX8_mostOf_0 1 rfl rfl)
theorem dX8_mostOf_2 : decode cX8_mostOf 2 = .ok (.if_icmp .ne 8, 3) := dk_160 0 8 (dk_at dksX8_mostOf_0 2 rfl rfl)
theorem dX8_mostOf_5 : decode cX8_mostOf 5 = .ok (.bipush 9, 2) := dk_16 9 (dk_at dksX8_mostOf_0 5 rfl rfl)
theorem dX8_mostOf_7 : decode cX8_mostOf 7 = .ok (.goto 6, 3) := dk_167 0 6 (dk_at dksX8_mostOf_0 7 rfl rfl)
theorem dX8_mostOf_10 : decode cX8_mostOf 10 = .ok (.sipush 999, 3) := dk_17 3 231 (dk_at dksX8_mostOf_0 10 rfl rfl)
theorem dX8_mostOf_13 : decode cX8_mostOf 13 = .ok (.ireturn, 1) := dk_172 (dk_at dksX8_mostOf_0 13 rfl rfl)
abbrev cX8_told : ByteArray := prog_16_method_15_code
def yX8_told : MethodName := ⟨RX8, "told", "(II)I"⟩
def dkwX8_told_7 : List UInt8 := [167, 0, 8, 42, 27, 182, 0, 147, 172]
abbrev dktX8_told_7 : List UInt8 := dkwX8_told_7 ++ []
def dkwX8_told_6 : List UInt8 := [160, 0, 11, 42, 27, 182, 0, 141, 167, 0, 22, 28, 16, 9, 160, 0, 11, 42, 27, 182, 0, 144]
abbrev dktX8_told_6 : List UInt8 := dkwX8_told_6 ++ dktX8_told_7
def dkwX8_told_5 : List UInt8 := [28, 16, 6, 160, 0, 12, 42, 180, 0, 23, 27, 46, 167, 0, 8, 42, 27, 182, 0, 103, 172, 28, 16, 8]
abbrev dktX8_told_5 : List UInt8 := dkwX8_told_5 ++ dktX8_told_6
def dkwX8_told_4 : List UInt8 := [182, 0, 138, 172, 28, 16, 8, 162, 0, 38, 28, 8, 160, 0, 12, 42, 180, 0, 26, 27, 46, 167, 0, 23]
abbrev dktX8_told_4 : List UInt8 := dkwX8_told_4 ++ dktX8_told_5
def dkwX8_told_3 : List UInt8 := [96, 4, 100, 46, 167, 0, 22, 28, 6, 160, 0, 12, 42, 180, 0, 29, 27, 46, 167, 0, 8, 42, 27]
abbrev dktX8_told_3 : List UInt8 := dkwX8_told_3 ++ dktX8_told_4
def dkwX8_told_2 : List UInt8 := [28, 154, 0, 10, 42, 180, 0, 126, 167, 0, 42, 28, 6, 162, 0, 18, 42, 180, 0, 32, 5, 27, 104, 28]
abbrev dktX8_told_2 : List UInt8 := dkwX8_told_2 ++ dktX8_told_3
def dkwX8_told_1 : List UInt8 := [182, 0, 112, 154, 0, 16, 167, 0, 10, 27, 184, 0, 97, 154, 0, 6, 16, 254, 172, 28, 8, 162, 0, 54]
abbrev dktX8_told_1 : List UInt8 := dkwX8_told_1 ++ dktX8_told_2
def dkwX8_told_0 : List UInt8 := [28, 133, 9, 20, 0, 136, 184, 0, 91, 153, 0, 30, 28, 158, 0, 29, 28, 8, 162, 0, 14, 42, 27]
abbrev dktX8_told_0 : List UInt8 := dkwX8_told_0 ++ dktX8_told_1
theorem dksX8_told_0 : cX8_told.data.toList.drop 0 = dktX8_told_0 := by decide +kernel
theorem dksX8_told_1 : cX8_told.data.toList.drop 23 = dktX8_told_1 := dk_seg dksX8_told_0 23 rfl rfl
theorem dksX8_told_2 : cX8_told.data.toList.drop 47 = dktX8_told_2 := dk_seg dksX8_told_1 24 rfl rfl
theorem dksX8_told_3 : cX8_told.data.toList.drop 71 = dktX8_told_3 := dk_seg dksX8_told_2 24 rfl rfl
theorem dksX8_told_4 : cX8_told.data.toList.drop 94 = dktX8_told_4 := dk_seg dksX8_told_3 23 rfl rfl
theorem dksX8_told_5 : cX8_told.data.toList.drop 118 = dktX8_told_5 := dk_seg dksX8_told_4 24 rfl rfl
theorem dksX8_told_6 : cX8_told.data.toList.drop 142 = dktX8_told_6 := dk_seg dksX8_told_5 24 rfl rfl
theorem dksX8_told_7 : cX8_told.data.toList.drop 164 = dktX8_told_7 := dk_seg dksX8_told_6 22 rfl rfl
theorem dX8_told_0 : decode cX8_told 0 = .ok (.iload_n 2, 1) := dk_28 (dk_at dksX8_told_0 0 rfl rfl)
theorem dX8_told_1 : decode cX8_told 1 = .ok (.i2l, 1) := dk_133 (dk_at dksX8_told_0 1 rfl rfl)
theorem dX8_told_2 : decode cX8_told 2 = .ok (.lconst 0, 1) := dk_9 (dk_at dksX8_told_0 2 rfl rfl)
theorem dX8_told_3 : decode cX8_told 3 = .ok (.ldc2_w 136, 3) := dk_20 0 136 (dk_at dksX8_told_0 3 rfl rfl)
theorem dX8_told_6 : decode cX8_told 6 = .ok (.invokestatic 91, 3) := dk_184 0 91 (dk_at dksX8_told_0 6 rfl rfl)
theorem dX8_told_9 : decode cX8_told 9 = .ok (.ifCond .eq 30, 3) := dk_153 0 30 (dk_at dksX8_told_0 9 rfl rfl)
theorem dX8_told_12 : decode cX8_told 12 = .ok (.iload_n 2, 1) := dk_28 (dk_at dksX8_told_0 12 rfl rfl)
theorem dX8_told_13 : decode cX8_told 13 = .ok (.ifCond .le 29, 3) := dk_158 0 29 (dk_at dksX8_told_0 13 rfl rfl)
theorem dX8_told_16 : decode cX8_told 16 = .ok (.iload_n 2, 1) := dk_28 (dk_at dksX8_told_0 16 rfl rfl)
theorem dX8_told_17 : decode cX8_told 17 = .ok (.iconst 5, 1) := dk_8 (dk_at dksX8_told_0 17 rfl rfl)
theorem dX8_told_18 : decode cX8_told 18 = .ok (.if_icmp .ge 14, 3) := dk_162 0 14 (dk_at dksX8_told_0 18 rfl rfl)
theorem dX8_told_21 : decode cX8_told 21 = .ok (.aload_n 0, 1) := dk_42 (dk_at dksX8_told_0 21 rfl rfl)
theorem dX8_told_22 : decode cX8_told 22 = .ok (.iload_n 1, 1) := dk_27 (dk_at dksX8_told_0 22 rfl rfl)
theorem dX8_told_23 : decode cX8_told 23 = .ok (.invokevirtual 112, 3) := dk_182 0 112 (dk_at dksX8_told_1 0 rfl rfl)
theorem dX8_told_26 : decode cX8_told 26 = .ok (.ifCond .ne 16, 3) := dk_154 0 16 (dk_at dksX8_told_1 3 rfl rfl)
theorem dX8_told_29 : decode cX8_told 29 = .ok (.goto 10, 3) := dk_167 0 10 (dk_at dksX8_told_1 6 rfl rfl)
theorem dX8_told_32 : decode cX8_told 32 = .ok (.iload_n 1, 1) := dk_27 (dk_at dksX8_told_1 9 rfl rfl)
theorem dX8_told_33 : decode cX8_told 33 = .ok (.invokestatic 97, 3) := dk_184 0 97 (dk_at dksX8_told_1 10 rfl rfl)
theorem dX8_told_36 : decode cX8_told 36 = .ok (.ifCond .ne 6, 3) := dk_154 0 6 (dk_at dksX8_told_1 13 rfl rfl)
theorem dX8_told_39 : decode cX8_told 39 = .ok (.bipush (-2), 2) := dk_16 254 (dk_at dksX8_told_1 16 rfl rfl)
theorem dX8_told_41 : decode cX8_told 41 = .ok (.ireturn, 1) := dk_172 (dk_at dksX8_told_1 18 rfl rfl)
theorem dX8_told_42 : decode cX8_told 42 = .ok (.iload_n 2, 1) := dk_28 (dk_at dksX8_told_1 19 rfl rfl)
theorem dX8_told_43 : decode cX8_told 43 = .ok (.iconst 5, 1) := dk_8 (dk_at dksX8_told_1 20 rfl rfl)
theorem dX8_told_44 : decode cX8_told 44 = .ok (.if_icmp .ge 54, 3) := dk_162 0 54 (dk_at dksX8_told_1 21 rfl rfl)
theorem dX8_told_47 : decode cX8_told 47 = .ok (.iload_n 2, 1) := dk_28 (dk_at dksX8_told_2 0 rfl rfl)
theorem dX8_told_48 : decode cX8_told 48 = .ok (.ifCond .ne 10, 3) := dk_154 0 10 (dk_at dksX8_told_2 1 rfl rfl)
theorem dX8_told_51 : decode cX8_told 51 = .ok (.aload_n 0, 1) := dk_42 (dk_at dksX8_told_2 4 rfl rfl)
theorem dX8_told_52 : decode cX8_told 52 = .ok (.getfield 126, 3) := dk_180 0 126 (dk_at dksX8_told_2 5 rfl rfl)
theorem dX8_told_55 : decode cX8_told 55 = .ok (.goto 42, 3) := dk_167 0 42 (dk_at dksX8_told_2 8 rfl rfl)
theorem dX8_told_58 : decode cX8_told 58 = .ok (.iload_n 2, 1) := dk_28 (dk_at dksX8_told_2 11 rfl rfl)
theorem dX8_told_59 : decode cX8_told 59 = .ok (.iconst 3, 1) := dk_6 (dk_at dksX8_told_2 12 rfl rfl)
theorem dX8_told_60 : decode cX8_told 60 = .ok (.if_icmp .ge 18, 3) := dk_162 0 18 (dk_at dksX8_told_2 13 rfl rfl)
theorem dX8_told_63 : decode cX8_told 63 = .ok (.aload_n 0, 1) := dk_42 (dk_at dksX8_told_2 16 rfl rfl)
theorem dX8_told_64 : decode cX8_told 64 = .ok (.getfield 32, 3) := dk_180 0 32 (dk_at dksX8_told_2 17 rfl rfl)
theorem dX8_told_67 : decode cX8_told 67 = .ok (.iconst 2, 1) := dk_5 (dk_at dksX8_told_2 20 rfl rfl)
theorem dX8_told_68 : decode cX8_told 68 = .ok (.iload_n 1, 1) := dk_27 (dk_at dksX8_told_2 21 rfl rfl)
theorem dX8_told_69 : decode cX8_told 69 = .ok (.imul, 1) := dk_104 (dk_at dksX8_told_2 22 rfl rfl)
theorem dX8_told_70 : decode cX8_told 70 = .ok (.iload_n 2, 1) := dk_28 (dk_at dksX8_told_2 23 rfl rfl)
theorem dX8_told_71 : decode cX8_told 71 = .ok (.iadd, 1) := dk_96 (dk_at dksX8_told_3 0 rfl rfl)
theorem dX8_told_72 : decode cX8_told 72 = .ok (.iconst 1, 1) := dk_4 (dk_at dksX8_told_3 1 rfl rfl)
theorem dX8_told_73 : decode cX8_told 73 = .ok (.isub, 1) := dk_100 (dk_at dksX8_told_3 2 rfl rfl)
theorem dX8_told_74 : decode cX8_told 74 = .ok (.iaload, 1) := dk_46 (dk_at dksX8_told_3 3 rfl rfl)
theorem dX8_told_75 : decode cX8_told 75 = .ok (.goto 22, 3) := dk_167 0 22 (dk_at dksX8_told_3 4 rfl rfl)
theorem dX8_told_78 : decode cX8_told 78 = .ok (.iload_n 2, 1) := dk_28 (dk_at dksX8_told_3 7 rfl rfl)
theorem dX8_told_79 : decode cX8_told 79 = .ok (.iconst 3, 1) := dk_6 (dk_at dksX8_told_3 8 rfl rfl)
theorem dX8_told_80 : decode cX8_told 80 = .ok (.if_icmp .ne 12, 3) := dk_160 0 12 (dk_at dksX8_told_3 9 rfl rfl)
theorem dX8_told_83 : decode cX8_told 83 = .ok (.aload_n 0, 1) := dk_42 (dk_at dksX8_told_3 12 rfl rfl)
theorem dX8_told_84 : decode cX8_told 84 = .ok (.getfield 29, 3) := dk_180 0 29 (dk_at dksX8_told_3 13 rfl rfl)
theorem dX8_told_87 : decode cX8_told 87 = .ok (.iload_n 1, 1) := dk_27 (dk_at dksX8_told_3 16 rfl rfl)
theorem dX8_told_88 : decode cX8_told 88 = .ok (.iaload, 1) := dk_46 (dk_at dksX8_told_3 17 rfl rfl)
theorem dX8_told_89 : decode cX8_told 89 = .ok (.goto 8, 3) := dk_167 0 8 (dk_at dksX8_told_3 18 rfl rfl)
theorem dX8_told_92 : decode cX8_told 92 = .ok (.aload_n 0, 1) := dk_42 (dk_at dksX8_told_3 21 rfl rfl)
theorem dX8_told_93 : decode cX8_told 93 = .ok (.iload_n 1, 1) := dk_27 (dk_at dksX8_told_3 22 rfl rfl)
theorem dX8_told_94 : decode cX8_told 94 = .ok (.invokevirtual 138, 3) := dk_182 0 138 (dk_at dksX8_told_4 0 rfl rfl)
theorem dX8_told_97 : decode cX8_told 97 = .ok (.ireturn, 1) := dk_172 (dk_at dksX8_told_4 3 rfl rfl)
theorem dX8_told_98 : decode cX8_told 98 = .ok (.iload_n 2, 1) := dk_28 (dk_at dksX8_told_4 4 rfl rfl)
theorem dX8_told_99 : decode cX8_told 99 = .ok (.bipush 8, 2) := dk_16 8 (dk_at dksX8_told_4 5 rfl rfl)
theorem dX8_told_101 : decode cX8_told 101 = .ok (.if_icmp .ge 38, 3) := dk_162 0 38 (dk_at dksX8_told_4 7 rfl rfl)
theorem dX8_told_104 : decode cX8_told 104 = .ok (.iload_n 2, 1) := dk_28 (dk_at dksX8_told_4 10 rfl rfl)
theorem dX8_told_105 : decode cX8_told 105 = .ok (.iconst 5, 1) := dk_8 (dk_at dksX8_told_4 11 rfl rfl)
theorem dX8_told_106 : decode cX8_told 106 = .ok (.if_icmp .ne 12, 3) := dk_160 0 12 (dk_at dksX8_told_4 12 rfl rfl)
theorem dX8_told_109 : decode cX8_told 109 = .ok (.aload_n 0, 1) := dk_42 (dk_at dksX8_told_4 15 rfl rfl)
theorem dX8_told_110 : decode cX8_told 110 = .ok (.getfield 26, 3) := dk_180 0 26 (dk_at dksX8_told_4 16 rfl rfl)
theorem dX8_told_113 : decode cX8_told 113 = .ok (.iload_n 1, 1) := dk_27 (dk_at dksX8_told_4 19 rfl rfl)
theorem dX8_told_114 : decode cX8_told 114 = .ok (.iaload, 1) := dk_46 (dk_at dksX8_told_4 20 rfl rfl)
theorem dX8_told_115 : decode cX8_told 115 = .ok (.goto 23, 3) := dk_167 0 23 (dk_at dksX8_told_4 21 rfl rfl)
theorem dX8_told_118 : decode cX8_told 118 = .ok (.iload_n 2, 1) := dk_28 (dk_at dksX8_told_5 0 rfl rfl)
theorem dX8_told_119 : decode cX8_told 119 = .ok (.bipush 6, 2) := dk_16 6 (dk_at dksX8_told_5 1 rfl rfl)
theorem dX8_told_121 : decode cX8_told 121 = .ok (.if_icmp .ne 12, 3) := dk_160 0 12 (dk_at dksX8_told_5 3 rfl rfl)
theorem dX8_told_124 : decode cX8_told 124 = .ok (.aload_n 0, 1) := dk_42 (dk_at dksX8_told_5 6 rfl rfl)
theorem dX8_told_125 : decode cX8_told 125 = .ok (.getfield 23, 3) := dk_180 0 23 (dk_at dksX8_told_5 7 rfl rfl)
theorem dX8_told_128 : decode cX8_told 128 = .ok (.iload_n 1, 1) := dk_27 (dk_at dksX8_told_5 10 rfl rfl)
theorem dX8_told_129 : decode cX8_told 129 = .ok (.iaload, 1) := dk_46 (dk_at dksX8_told_5 11 rfl rfl)
theorem dX8_told_130 : decode cX8_told 130 = .ok (.goto 8, 3) := dk_167 0 8 (dk_at dksX8_told_5 12 rfl rfl)
theorem dX8_told_133 : decode cX8_told 133 = .ok (.aload_n 0, 1) := dk_42 (dk_at dksX8_told_5 15 rfl rfl)
theorem dX8_told_134 : decode cX8_told 134 = .ok (.iload_n 1, 1) := dk_27 (dk_at dksX8_told_5 16 rfl rfl)
theorem dX8_told_135 : decode cX8_told 135 = .ok (.invokevirtual 103, 3) := dk_182 0 103 (dk_at dksX8_told_5 17 rfl rfl)
theorem dX8_told_138 : decode cX8_told 138 = .ok (.ireturn, 1) := dk_172 (dk_at dksX8_told_5 20 rfl rfl)
theorem dX8_told_139 : decode cX8_told 139 = .ok (.iload_n 2, 1) := dk_28 (dk_at dksX8_told_5 21 rfl rfl)
theorem dX8_told_140 : decode cX8_told 140 = .ok (.bipush 8, 2) := dk_16 8 (dk_at dksX8_told_5 22 rfl rfl)
theorem dX8_told_142 : decode cX8_told 142 = .ok (.if_icmp .ne 11, 3) := dk_160 0 11 (dk_at dksX8_told_6 0 rfl rfl)
theorem dX8_told_145 : decode cX8_told 145 = .ok (.aload_n 0, 1) := dk_42 (dk_at dksX8_told_6 3 rfl rfl)
theorem dX8_told_146 : decode cX8_told 146 = .ok (.iload_n 1, 1) := dk_27 (dk_at dksX8_told_6 4 rfl rfl)
theorem dX8_told_147 : decode cX8_told 147 = .ok (.invokevirtual 141, 3) := dk_182 0 141 (dk_at dksX8_told_6 5 rfl rfl)
theorem dX8_told_150 : decode cX8_told 150 = .ok (.goto 22, 3) := dk_167 0 22 (dk_at dksX8_told_6 8 rfl rfl)
theorem dX8_told_153 : decode cX8_told 153 = .ok (.iload_n 2, 1) := dk_28 (dk_at dksX8_told_6 11 rfl rfl)
theorem dX8_told_154 : decode cX8_told 154 = .ok (.bipush 9, 2) := dk_16 9 (dk_at dksX8_told_6 12 rfl rfl)
theorem dX8_told_156 : decode cX8_told 156 = .ok (.if_icmp .ne 11, 3) := dk_160 0 11 (dk_at dksX8_told_6 14 rfl rfl)
theorem dX8_told_159 : decode cX8_told 159 = .ok (.aload_n 0, 1) := dk_42 (dk_at dksX8_told_6 17 rfl rfl)
theorem dX8_told_160 : decode cX8_told 160 = .ok (.iload_n 1, 1) := dk_27 (dk_at dksX8_told_6 18 rfl rfl)
theorem dX8_told_161 : decode cX8_told 161 = .ok (.invokevirtual 144, 3) := dk_182 0 144 (dk_at dksX8_told_6 19 rfl rfl)
theorem dX8_told_164 : decode cX8_told 164 = .ok (.goto 8, 3) := dk_167 0 8 (dk_at dksX8_told_7 0 rfl rfl)
theorem dX8_told_167 : decode cX8_told 167 = .ok (.aload_n 0, 1) := dk_42 (dk_at dksX8_told_7 3 rfl rfl)
theorem dX8_told_168 : decode cX8_told 168 = .ok (.iload_n 1, 1) := dk_27 (dk_at dksX8_told_7 4 rfl rfl)
theorem dX8_told_169 : decode cX8_told 169 = .ok (.invokevirtual 147, 3) := dk_182 0 147 (dk_at dksX8_told_7 5 rfl rfl)
theorem dX8_told_172 : decode cX8_told 172 = .ok (.ireturn, 1) := dk_172 (dk_at dksX8_told_7 8 rfl rfl)
abbrev cX8_keepsOf : ByteArray := prog_16_method_37_code
def yX8_keepsOf : MethodName := ⟨RX8, "keepsOf", "(I)I"⟩
def dkwX8_keepsOf_4 : List UInt8 := [17, 3, 231, 184, 1, 11, 172]
abbrev dktX8_keepsOf_4 : List UInt8 := dkwX8_keepsOf_4 ++ []
def dkwX8_keepsOf_3 : List UInt8 := [182, 1, 15, 104, 16, 100, 108, 54, 5, 28, 6, 160, 0, 10, 21, 5, 29, 100, 167, 0, 5, 21, 5, 3]
abbrev dktX8_keepsOf_3 : List UInt8 := dkwX8_keepsOf_3 ++ dktX8_keepsOf_4
def dkwX8_keepsOf_2 : List UInt8 := [21, 4, 5, 108, 172, 28, 8, 160, 0, 5, 3, 172, 21, 4, 42, 4, 3, 3, 29, 21, 4, 3]
abbrev dktX8_keepsOf_2 : List UInt8 := dkwX8_keepsOf_2 ++ dktX8_keepsOf_3
def dkwX8_keepsOf_1 : List UInt8 := [96, 46, 54, 4, 28, 5, 159, 0, 8, 28, 7, 160, 0, 18, 28, 5, 160, 0, 8, 21, 4, 167, 0, 7]
abbrev dktX8_keepsOf_1 : List UInt8 := dkwX8_keepsOf_1 ++ dktX8_keepsOf_2
def dkwX8_keepsOf_0 : List UInt8 := [42, 180, 0, 29, 27, 46, 61, 42, 180, 0, 32, 5, 27, 104, 46, 62, 42, 180, 0, 32, 5, 27, 104, 4]
abbrev dktX8_keepsOf_0 : List UInt8 := dkwX8_keepsOf_0 ++ dktX8_keepsOf_1
theorem dksX8_keepsOf_0 : cX8_keepsOf.data.toList.drop 0 = dktX8_keepsOf_0 := by decide +kernel
theorem dksX8_keepsOf_1 : cX8_keepsOf.data.toList.drop 24 = dktX8_keepsOf_1 := dk_seg dksX8_keepsOf_0 24 rfl rfl
theorem dksX8_keepsOf_2 : cX8_keepsOf.data.toList.drop 48 = dktX8_keepsOf_2 := dk_seg dksX8_keepsOf_1 24 rfl rfl
theorem dksX8_keepsOf_3 : cX8_keepsOf.data.toList.drop 70 = dktX8_keepsOf_3 := dk_seg dksX8_keepsOf_2 22 rfl rfl
theorem dksX8_keepsOf_4 : cX8_keepsOf.data.toList.drop 94 = dktX8_keepsOf_4 := dk_seg dksX8_keepsOf_3 24 rfl rfl
theorem dX8_keepsOf_0 : decode cX8_keepsOf 0 = .ok (.aload_n 0, 1) := dk_42 (dk_at dksX8_keepsOf_0 0 rfl rfl)
theorem dX8_keepsOf_1 : decode cX8_keepsOf 1 = .ok (.getfield 29, 3) := dk_180 0 29 (dk_at dksX8_keepsOf_0 1 rfl rfl)
theorem dX8_keepsOf_4 : decode cX8_keepsOf 4 = .ok (.iload_n 1, 1) := dk_27 (dk_at dksX8_keepsOf_0 4 rfl rfl)
theorem dX8_keepsOf_5 : decode cX8_keepsOf 5 = .ok (.iaload, 1) := dk_46 (dk_at dksX8_keepsOf_0 5 rfl rfl)
theorem dX8_keepsOf_6 : decode cX8_keepsOf 6 = .ok (.istore_n 2, 1) := dk_61 (dk_at dksX8_keepsOf_0 6 rfl rfl)
theorem dX8_keepsOf_7 : decode cX8_keepsOf 7 = .ok (.aload_n 0, 1) := dk_42 (dk_at dksX8_keepsOf_0 7 rfl rfl)
theorem dX8_keepsOf_8 : decode cX8_keepsOf 8 = .ok (.getfield 32, 3) := dk_180 0 32 (dk_at dksX8_keepsOf_0 8 rfl rfl)
theorem dX8_keepsOf_11 : decode cX8_keepsOf 11 = .ok (.iconst 2, 1) := dk_5 (dk_at dksX8_keepsOf_0 11 rfl rfl)
theorem dX8_keepsOf_12 : decode cX8_keepsOf 12 = .ok (.iload_n 1, 1) := dk_27 (dk_at dksX8_keepsOf_0 12 rfl rfl)
theorem dX8_keepsOf_13 : decode cX8_keepsOf 13 = .ok (.imul, 1) := dk_104 (dk_at dksX8_keepsOf_0 13 rfl rfl)
theorem dX8_keepsOf_14 : decode cX8_keepsOf 14 = .ok (.iaload, 1) := dk_46 (dk_at dksX8_keepsOf_0 14 rfl rfl)
theorem dX8_keepsOf_15 : decode cX8_keepsOf 15 = .ok (.istore_n 3, 1) := dk_62 (dk_at dksX8_keepsOf_0 15 rfl rfl)
theorem dX8_keepsOf_16 : decode cX8_keepsOf 16 = .ok (.aload_n 0, 1) := dk_42 (dk_at dksX8_keepsOf_0 16 rfl rfl)
theorem dX8_keepsOf_17 : decode cX8_keepsOf 17 = .ok (.getfield 32, 3) := dk_180 0 32 (dk_at dksX8_keepsOf_0 17 rfl rfl)
theorem dX8_keepsOf_20 : decode cX8_keepsOf 20 = .ok (.iconst 2, 1) := dk_5 (dk_at dksX8_keepsOf_0 20 rfl rfl)
theorem dX8_keepsOf_21 : decode cX8_keepsOf 21 = .ok (.iload_n 1, 1) := dk_27 (dk_at dksX8_keepsOf_0 21 rfl rfl)
theorem dX8_keepsOf_22 : decode cX8_keepsOf 22 = .ok (.imul, 1) := dk_104 (dk_at dksX8_keepsOf_0 22 rfl rfl)
theorem dX8_keepsOf_23 : decode cX8_keepsOf 23 = .ok (.iconst 1, 1) := dk_4 (dk_at dksX8_keepsOf_0 23 rfl rfl)
theorem dX8_keepsOf_24 : decode cX8_keepsOf 24 = .ok (.iadd, 1) := dk_96 (dk_at dksX8_keepsOf_1 0 rfl rfl)
theorem dX8_keepsOf_25 : decode cX8_keepsOf 25 = .ok (.iaload, 1) := dk_46 (dk_at dksX8_keepsOf_1 1 rfl rfl)
theorem dX8_keepsOf_26 : decode cX8_keepsOf 26 = .ok (.istore 4, 2) := dk_54 4 (dk_at dksX8_keepsOf_1 2 rfl rfl)
theorem dX8_keepsOf_28 : decode cX8_keepsOf 28 = .ok (.iload_n 2, 1) := dk_28 (dk_at dksX8_keepsOf_1 4 rfl rfl)
theorem dX8_keepsOf_29 : decode cX8_keepsOf 29 = .ok (.iconst 2, 1) := dk_5 (dk_at dksX8_keepsOf_1 5 rfl rfl)
theorem dX8_keepsOf_30 : decode cX8_keepsOf 30 = .ok (.if_icmp .eq 8, 3) := dk_159 0 8 (dk_at dksX8_keepsOf_1 6 rfl rfl)
theorem dX8_keepsOf_33 : decode cX8_keepsOf 33 = .ok (.iload_n 2, 1) := dk_28 (dk_at dksX8_keepsOf_1 9 rfl rfl)
theorem dX8_keepsOf_34 : decode cX8_keepsOf 34 = .ok (.iconst 4, 1) := dk_7 (dk_at dksX8_keepsOf_1 10 rfl rfl)
theorem dX8_keepsOf_35 : decode cX8_keepsOf 35 = .ok (.if_icmp .ne 18, 3) := dk_160 0 18 (dk_at dksX8_keepsOf_1 11 rfl rfl)
theorem dX8_keepsOf_38 : decode cX8_keepsOf 38 = .ok (.iload_n 2, 1) := dk_28 (dk_at dksX8_keepsOf_1 14 rfl rfl)
theorem dX8_keepsOf_39 : decode cX8_keepsOf 39 = .ok (.iconst 2, 1) := dk_5 (dk_at dksX8_keepsOf_1 15 rfl rfl)
theorem dX8_keepsOf_40 : decode cX8_keepsOf 40 = .ok (.if_icmp .ne 8, 3) := dk_160 0 8 (dk_at dksX8_keepsOf_1 16 rfl rfl)
theorem dX8_keepsOf_43 : decode cX8_keepsOf 43 = .ok (.iload 4, 2) := dk_21 4 (dk_at dksX8_keepsOf_1 19 rfl rfl)
theorem dX8_keepsOf_45 : decode cX8_keepsOf 45 = .ok (.goto 7, 3) := dk_167 0 7 (dk_at dksX8_keepsOf_1 21 rfl rfl)
theorem dX8_keepsOf_48 : decode cX8_keepsOf 48 = .ok (.iload 4, 2) := dk_21 4 (dk_at dksX8_keepsOf_2 0 rfl rfl)
theorem dX8_keepsOf_50 : decode cX8_keepsOf 50 = .ok (.iconst 2, 1) := dk_5 (dk_at dksX8_keepsOf_2 2 rfl rfl)
theorem dX8_keepsOf_51 : decode cX8_keepsOf 51 = .ok (.idiv, 1) := dk_108 (dk_at dksX8_keepsOf_2 3 rfl rfl)
theorem dX8_keepsOf_52 : decode cX8_keepsOf 52 = .ok (.ireturn, 1) := dk_172 (dk_at dksX8_keepsOf_2 4 rfl rfl)
theorem dX8_keepsOf_53 : decode cX8_keepsOf 53 = .ok (.iload_n 2, 1) := dk_28 (dk_at dksX8_keepsOf_2 5 rfl rfl)
theorem dX8_keepsOf_54 : decode cX8_keepsOf 54 = .ok (.iconst 5, 1) := dk_8 (dk_at dksX8_keepsOf_2 6 rfl rfl)
theorem dX8_keepsOf_55 : decode cX8_keepsOf 55 = .ok (.if_icmp .ne 5, 3) := dk_160 0 5 (dk_at dksX8_keepsOf_2 7 rfl rfl)
theorem dX8_keepsOf_58 : decode cX8_keepsOf 58 = .ok (.iconst 0, 1) := dk_3 (dk_at dksX8_keepsOf_2 10 rfl rfl)
theorem dX8_keepsOf_59 : decode cX8_keepsOf 59 = .ok (.ireturn, 1) := dk_172 (dk_at dksX8_keepsOf_2 11 rfl rfl)
theorem dX8_keepsOf_60 : decode cX8_keepsOf 60 = .ok (.iload 4, 2) := dk_21 4 (dk_at dksX8_keepsOf_2 12 rfl rfl)
theorem dX8_keepsOf_62 : decode cX8_keepsOf 62 = .ok (.aload_n 0, 1) := dk_42 (dk_at dksX8_keepsOf_2 14 rfl rfl)
theorem dX8_keepsOf_63 : decode cX8_keepsOf 63 = .ok (.iconst 1, 1) := dk_4 (dk_at dksX8_keepsOf_2 15 rfl rfl)
theorem dX8_keepsOf_64 : decode cX8_keepsOf 64 = .ok (.iconst 0, 1) := dk_3 (dk_at dksX8_keepsOf_2 16 rfl rfl)
theorem dX8_keepsOf_65 : decode cX8_keepsOf 65 = .ok (.iconst 0, 1) := dk_3 (dk_at dksX8_keepsOf_2 17 rfl rfl)
theorem dX8_keepsOf_66 : decode cX8_keepsOf 66 = .ok (.iload_n 3, 1) := dk_29 (dk_at dksX8_keepsOf_2 18 rfl rfl)
theorem dX8_keepsOf_67 : decode cX8_keepsOf 67 = .ok (.iload 4, 2) := dk_21 4 (dk_at dksX8_keepsOf_2 19 rfl rfl)
theorem dX8_keepsOf_69 : decode cX8_keepsOf 69 = .ok (.iconst 0, 1) := dk_3 (dk_at dksX8_keepsOf_2 21 rfl rfl)
theorem dX8_keepsOf_70 : decode cX8_keepsOf 70 = .ok (.invokevirtual 271, 3) := dk_182 1 15 (dk_at dksX8_keepsOf_3 0 rfl rfl)
theorem dX8_keepsOf_73 : decode cX8_keepsOf 73 = .ok (.imul, 1) := dk_104 (dk_at dksX8_keepsOf_3 3 rfl rfl)
theorem dX8_keepsOf_74 : decode cX8_keepsOf 74 = .ok (.bipush 100, 2) := dk_16 100 (dk_at dksX8_keepsOf_3 4 rfl rfl)
theorem dX8_keepsOf_76 : decode cX8_keepsOf 76 = .ok (.idiv, 1) := dk_108 (dk_at dksX8_keepsOf_3 6 rfl rfl)
theorem dX8_keepsOf_77 : decode cX8_keepsOf 77 = .ok (.istore 5, 2) := dk_54 5 (dk_at dksX8_keepsOf_3 7 rfl rfl)
theorem dX8_keepsOf_79 : decode cX8_keepsOf 79 = .ok (.iload_n 2, 1) := dk_28 (dk_at dksX8_keepsOf_3 9 rfl rfl)
theorem dX8_keepsOf_80 : decode cX8_keepsOf 80 = .ok (.iconst 3, 1) := dk_6 (dk_at dksX8_keepsOf_3 10 rfl rfl)
theorem dX8_keepsOf_81 : decode cX8_keepsOf 81 = .ok (.if_icmp .ne 10, 3) := dk_160 0 10 (dk_at dksX8_keepsOf_3 11 rfl rfl)
theorem dX8_keepsOf_84 : decode cX8_keepsOf 84 = .ok (.iload 5, 2) := dk_21 5 (dk_at dksX8_keepsOf_3 14 rfl rfl)
theorem dX8_keepsOf_86 : decode cX8_keepsOf 86 = .ok (.iload_n 3, 1) := dk_29 (dk_at dksX8_keepsOf_3 16 rfl rfl)
theorem dX8_keepsOf_87 : decode cX8_keepsOf 87 = .ok (.isub, 1) := dk_100 (dk_at dksX8_keepsOf_3 17 rfl rfl)
theorem dX8_keepsOf_88 : decode cX8_keepsOf 88 = .ok (.goto 5, 3) := dk_167 0 5 (dk_at dksX8_keepsOf_3 18 rfl rfl)
theorem dX8_keepsOf_91 : decode cX8_keepsOf 91 = .ok (.iload 5, 2) := dk_21 5 (dk_at dksX8_keepsOf_3 21 rfl rfl)
theorem dX8_keepsOf_93 : decode cX8_keepsOf 93 = .ok (.iconst 0, 1) := dk_3 (dk_at dksX8_keepsOf_3 23 rfl rfl)
theorem dX8_keepsOf_94 : decode cX8_keepsOf 94 = .ok (.sipush 999, 3) := dk_17 3 231 (dk_at dksX8_keepsOf_4 0 rfl rfl)
theorem dX8_keepsOf_97 : decode cX8_keepsOf 97 = .ok (.invokestatic 267, 3) := dk_184 1 11 (dk_at dksX8_keepsOf_4 3 rfl rfl)
theorem dX8_keepsOf_100 : decode cX8_keepsOf 100 = .ok (.ireturn, 1) := dk_172 (dk_at dksX8_keepsOf_4 6 rfl rfl)
abbrev cX8_says : ByteArray := prog_16_method_35_code
def yX8_says : MethodName := ⟨RX8, "says", "(IIIIII)I"⟩
def dkwX8_says_2 : List UInt8 := [154, 0, 8, 16, 99, 167, 0, 15, 27, 4, 160, 0, 8, 16, 100, 167, 0, 5, 16, 9, 184, 1, 11, 172]
abbrev dktX8_says_2 : List UInt8 := dkwX8_says_2 ++ []
def dkwX8_says_1 : List UInt8 := [42, 21, 5, 181, 0, 221, 42, 21, 6, 181, 0, 224, 42, 42, 180, 0, 129, 27, 182, 1, 8, 3, 27]
abbrev dktX8_says_1 : List UInt8 := dkwX8_says_1 ++ dktX8_says_2
def dkwX8_says_0 : List UInt8 := [42, 28, 181, 0, 209, 42, 29, 181, 0, 212, 42, 21, 4, 181, 0, 215, 42, 42, 180, 0, 126, 181, 0, 218]
abbrev dktX8_says_0 : List UInt8 := dkwX8_says_0 ++ dktX8_says_1
theorem dksX8_says_0 : cX8_says.data.toList.drop 0 = dktX8_says_0 := by decide +kernel
theorem dksX8_says_1 : cX8_says.data.toList.drop 24 = dktX8_says_1 := dk_seg dksX8_says_0 24 rfl rfl
theorem dksX8_says_2 : cX8_says.data.toList.drop 47 = dktX8_says_2 := dk_seg dksX8_says_1 23 rfl rfl
theorem dX8_says_0 : decode cX8_says 0 = .ok (.aload_n 0, 1) := dk_42 (dk_at dksX8_says_0 0 rfl rfl)
theorem dX8_says_1 : decode cX8_says 1 = .ok (.iload_n 2, 1) := dk_28 (dk_at dksX8_says_0 1 rfl rfl)
theorem dX8_says_2 : decode cX8_says 2 = .ok (.putfield 209, 3) := dk_181 0 209 (dk_at dksX8_says_0 2 rfl rfl)
theorem dX8_says_5 : decode cX8_says 5 = .ok (.aload_n 0, 1) := dk_42 (dk_at dksX8_says_0 5 rfl rfl)
theorem dX8_says_6 : decode cX8_says 6 = .ok (.iload_n 3, 1) := dk_29 (dk_at dksX8_says_0 6 rfl rfl)
theorem dX8_says_7 : decode cX8_says 7 = .ok (.putfield 212, 3) := dk_181 0 212 (dk_at dksX8_says_0 7 rfl rfl)
theorem dX8_says_10 : decode cX8_says 10 = .ok (.aload_n 0, 1) := dk_42 (dk_at dksX8_says_0 10 rfl rfl)
theorem dX8_says_11 : decode cX8_says 11 = .ok (.iload 4, 2) := dk_21 4 (dk_at dksX8_says_0 11 rfl rfl)
theorem dX8_says_13 : decode cX8_says 13 = .ok (.putfield 215, 3) := dk_181 0 215 (dk_at dksX8_says_0 13 rfl rfl)
theorem dX8_says_16 : decode cX8_says 16 = .ok (.aload_n 0, 1) := dk_42 (dk_at dksX8_says_0 16 rfl rfl)
theorem dX8_says_17 : decode cX8_says 17 = .ok (.aload_n 0, 1) := dk_42 (dk_at dksX8_says_0 17 rfl rfl)
theorem dX8_says_18 : decode cX8_says 18 = .ok (.getfield 126, 3) := dk_180 0 126 (dk_at dksX8_says_0 18 rfl rfl)
theorem dX8_says_21 : decode cX8_says 21 = .ok (.putfield 218, 3) := dk_181 0 218 (dk_at dksX8_says_0 21 rfl rfl)
theorem dX8_says_24 : decode cX8_says 24 = .ok (.aload_n 0, 1) := dk_42 (dk_at dksX8_says_1 0 rfl rfl)
theorem dX8_says_25 : decode cX8_says 25 = .ok (.iload 5, 2) := dk_21 5 (dk_at dksX8_says_1 1 rfl rfl)
theorem dX8_says_27 : decode cX8_says 27 = .ok (.putfield 221, 3) := dk_181 0 221 (dk_at dksX8_says_1 3 rfl rfl)
theorem dX8_says_30 : decode cX8_says 30 = .ok (.aload_n 0, 1) := dk_42 (dk_at dksX8_says_1 6 rfl rfl)
theorem dX8_says_31 : decode cX8_says 31 = .ok (.iload 6, 2) := dk_21 6 (dk_at dksX8_says_1 7 rfl rfl)
theorem dX8_says_33 : decode cX8_says 33 = .ok (.putfield 224, 3) := dk_181 0 224 (dk_at dksX8_says_1 9 rfl rfl)
theorem dX8_says_36 : decode cX8_says 36 = .ok (.aload_n 0, 1) := dk_42 (dk_at dksX8_says_1 12 rfl rfl)
theorem dX8_says_37 : decode cX8_says 37 = .ok (.aload_n 0, 1) := dk_42 (dk_at dksX8_says_1 13 rfl rfl)
theorem dX8_says_38 : decode cX8_says 38 = .ok (.getfield 129, 3) := dk_180 0 129 (dk_at dksX8_says_1 14 rfl rfl)
theorem dX8_says_41 : decode cX8_says 41 = .ok (.iload_n 1, 1) := dk_27 (dk_at dksX8_says_1 17 rfl rfl)
theorem dX8_says_42 : decode cX8_says 42 = .ok (.invokevirtual 264, 3) := dk_182 1 8 (dk_at dksX8_says_1 18 rfl rfl)
theorem dX8_says_45 : decode cX8_says 45 = .ok (.iconst 0, 1) := dk_3 (dk_at dksX8_says_1 21 rfl rfl)
theorem dX8_says_46 : decode cX8_says 46 = .ok (.iload_n 1, 1) := dk_27 (dk_at dksX8_says_1 22 rfl rfl)
theorem dX8_says_47 : decode cX8_says 47 = .ok (.ifCond .ne 8, 3) := dk_154 0 8 (dk_at dksX8_says_2 0 rfl rfl)
theorem dX8_says_50 : decode cX8_says 50 = .ok (.bipush 99, 2) := dk_16 99 (dk_at dksX8_says_2 3 rfl rfl)
theorem dX8_says_52 : decode cX8_says 52 = .ok (.goto 15, 3) := dk_167 0 15 (dk_at dksX8_says_2 5 rfl rfl)
theorem dX8_says_55 : decode cX8_says 55 = .ok (.iload_n 1, 1) := dk_27 (dk_at dksX8_says_2 8 rfl rfl)
theorem dX8_says_56 : decode cX8_says 56 = .ok (.iconst 1, 1) := dk_4 (dk_at dksX8_says_2 9 rfl rfl)
theorem dX8_says_57 : decode cX8_says 57 = .ok (.if_icmp .ne 8, 3) := dk_160 0 8 (dk_at dksX8_says_2 10 rfl rfl)
theorem dX8_says_60 : decode cX8_says 60 = .ok (.bipush 100, 2) := dk_16 100 (dk_at dksX8_says_2 13 rfl rfl)
theorem dX8_says_62 : decode cX8_says 62 = .ok (.goto 5, 3) := dk_167 0 5 (dk_at dksX8_says_2 15 rfl rfl)
theorem dX8_says_65 : decode cX8_says 65 = .ok (.bipush 9, 2) := dk_16 9 (dk_at dksX8_says_2 18 rfl rfl)
theorem dX8_says_67 : decode cX8_says 67 = .ok (.invokestatic 267, 3) := dk_184 1 11 (dk_at dksX8_says_2 20 rfl rfl)
theorem dX8_says_70 : decode cX8_says 70 = .ok (.ireturn, 1) := dk_172 (dk_at dksX8_says_2 23 rfl rfl)
abbrev cX8_read : ByteArray := prog_16_method_32_code
def yX8_read : MethodName := ⟨RX8, "read", "(II)I"⟩
def dkwX8_read_7 : List UInt8 := [172]
abbrev dktX8_read_7 : List UInt8 := dkwX8_read_7 ++ []
def dkwX8_read_6 : List UInt8 := [42, 182, 0, 199, 28, 154, 0, 7, 29, 167, 0, 15, 28, 4, 160, 0, 8, 21, 4, 167, 0, 5, 21, 5]
abbrev dktX8_read_6 : List UInt8 := dkwX8_read_6 ++ dktX8_read_7
def dkwX8_read_5 : List UInt8 := [3, 3, 182, 0, 205, 182, 1, 4, 54, 5, 42, 180, 0, 185, 154, 0, 14, 42, 180, 0, 170, 153, 0, 7]
abbrev dktX8_read_5 : List UInt8 := dkwX8_read_5 ++ dktX8_read_6
def dkwX8_read_4 : List UInt8 := [180, 0, 185, 153, 0, 7, 3, 167, 0, 25, 42, 42, 16, 115, 16, 104, 16, 97, 16, 107, 16, 101, 16, 115]
abbrev dktX8_read_4 : List UInt8 := dkwX8_read_4 ++ dktX8_read_5
def dkwX8_read_3 : List UInt8 := [42, 16, 107, 16, 101, 16, 101, 16, 112, 16, 115, 3, 3, 3, 182, 0, 205, 182, 1, 4, 54, 4, 42]
abbrev dktX8_read_3 : List UInt8 := dkwX8_read_3 ++ dktX8_read_4
def dkwX8_read_2 : List UInt8 := [16, 115, 3, 3, 3, 182, 0, 205, 182, 1, 4, 62, 42, 180, 0, 185, 153, 0, 7, 3, 167, 0, 24, 42]
abbrev dktX8_read_2 : List UInt8 := dkwX8_read_2 ++ dktX8_read_3
def dkwX8_read_1 : List UInt8 := [42, 3, 181, 0, 196, 42, 3, 181, 0, 185, 42, 182, 0, 202, 42, 42, 16, 116, 16, 97, 16, 107, 16, 101]
abbrev dktX8_read_1 : List UInt8 := dkwX8_read_1 ++ dktX8_read_2
def dkwX8_read_0 : List UInt8 := [42, 17, 0, 160, 27, 104, 181, 0, 158, 42, 42, 180, 0, 17, 27, 46, 181, 0, 155, 42, 3, 181, 0, 161]
abbrev dktX8_read_0 : List UInt8 := dkwX8_read_0 ++ dktX8_read_1
theorem dksX8_read_0 : cX8_read.data.toList.drop 0 = dktX8_read_0 := by decide +kernel
theorem dksX8_read_1 : cX8_read.data.toList.drop 24 = dktX8_read_1 := dk_seg dksX8_read_0 24 rfl rfl
theorem dksX8_read_2 : cX8_read.data.toList.drop 48 = dktX8_read_2 := dk_seg dksX8_read_1 24 rfl rfl
theorem dksX8_read_3 : cX8_read.data.toList.drop 72 = dktX8_read_3 := dk_seg dksX8_read_2 24 rfl rfl
theorem dksX8_read_4 : cX8_read.data.toList.drop 95 = dktX8_read_4 := dk_seg dksX8_read_3 23 rfl rfl
theorem dksX8_read_5 : cX8_read.data.toList.drop 119 = dktX8_read_5 := dk_seg dksX8_read_4 24 rfl rfl
theorem dksX8_read_6 : cX8_read.data.toList.drop 143 = dktX8_read_6 := dk_seg dksX8_read_5 24 rfl rfl
theorem dksX8_read_7 : cX8_read.data.toList.drop 167 = dktX8_read_7 := dk_seg dksX8_read_6 24 rfl rfl
theorem dX8_read_0 : decode cX8_read 0 = .ok (.aload_n 0, 1) := dk_42 (dk_at dksX8_read_0 0 rfl rfl)
theorem dX8_read_1 : decode cX8_read 1 = .ok (.sipush 160, 3) := dk_17 0 160 (dk_at dksX8_read_0 1 rfl rfl)
theorem dX8_read_4 : decode cX8_read 4 = .ok (.iload_n 1, 1) := dk_27 (dk_at dksX8_read_0 4 rfl rfl)
theorem dX8_read_5 : decode cX8_read 5 = .ok (.imul, 1) := dk_104 (dk_at dksX8_read_0 5 rfl rfl)
theorem dX8_read_6 : decode cX8_read 6 = .ok (.putfield 158, 3) := dk_181 0 158 (dk_at dksX8_read_0 6 rfl rfl)
theorem dX8_read_9 : decode cX8_read 9 = .ok (.aload_n 0, 1) := dk_42 (dk_at dksX8_read_0 9 rfl rfl)
theorem dX8_read_10 : decode cX8_read 10 = .ok (.aload_n 0, 1) := dk_42 (dk_at dksX8_read_0 10 rfl rfl)
theorem dX8_read_11 : decode cX8_read 11 = .ok (.getfield 17, 3) := dk_180 0 17 (dk_at dksX8_read_0 11 rfl rfl)
theorem dX8_read_14 : decode cX8_read 14 = .ok (.iload_n 1, 1) := dk_27 (dk_at dksX8_read_0 14 rfl rfl)
theorem dX8_read_15 : decode cX8_read 15 = .ok (.iaload, 1) := dk_46 (dk_at dksX8_read_0 15 rfl rfl)
theorem dX8_read_16 : decode cX8_read 16 = .ok (.putfield 155, 3) := dk_181 0 155 (dk_at dksX8_read_0 16 rfl rfl)
theorem dX8_read_19 : decode cX8_read 19 = .ok (.aload_n 0, 1) := dk_42 (dk_at dksX8_read_0 19 rfl rfl)
theorem dX8_read_20 : decode cX8_read 20 = .ok (.iconst 0, 1) := dk_3 (dk_at dksX8_read_0 20 rfl rfl)
theorem dX8_read_21 : decode cX8_read 21 = .ok (.putfield 161, 3) := dk_181 0 161 (dk_at dksX8_read_0 21 rfl rfl)
theorem dX8_read_24 : decode cX8_read 24 = .ok (.aload_n 0, 1) := dk_42 (dk_at dksX8_read_1 0 rfl rfl)
theorem dX8_read_25 : decode cX8_read 25 = .ok (.iconst 0, 1) := dk_3 (dk_at dksX8_read_1 1 rfl rfl)
theorem dX8_read_26 : decode cX8_read 26 = .ok (.putfield 196, 3) := dk_181 0 196 (dk_at dksX8_read_1 2 rfl rfl)
theorem dX8_read_29 : decode cX8_read 29 = .ok (.aload_n 0, 1) := dk_42 (dk_at dksX8_read_1 5 rfl rfl)
theorem dX8_read_30 : decode cX8_read 30 = .ok (.iconst 0, 1) := dk_3 (dk_at dksX8_read_1 6 rfl rfl)
theorem dX8_read_31 : decode cX8_read 31 = .ok (.putfield 185, 3) := dk_181 0 185 (dk_at dksX8_read_1 7 rfl rfl)
theorem dX8_read_34 : decode cX8_read 34 = .ok (.aload_n 0, 1) := dk_42 (dk_at dksX8_read_1 10 rfl rfl)
theorem dX8_read_35 : decode cX8_read 35 = .ok (.invokevirtual 202, 3) := dk_182 0 202 (dk_at dksX8_read_1 11 rfl rfl)
theorem dX8_read_38 : decode cX8_read 38 = .ok (.aload_n 0, 1) := dk_42 (dk_at dksX8_read_1 14 rfl rfl)
theorem dX8_read_39 : decode cX8_read 39 = .ok (.aload_n 0, 1) := dk_42 (dk_at dksX8_read_1 15 rfl rfl)
theorem dX8_read_40 : decode cX8_read 40 = .ok (.bipush 116, 2) := dk_16 116 (dk_at dksX8_read_1 16 rfl rfl)
theorem dX8_read_42 : decode cX8_read 42 = .ok (.bipush 97, 2) := dk_16 97 (dk_at dksX8_read_1 18 rfl rfl)
theorem dX8_read_44 : decode cX8_read 44 = .ok (.bipush 107, 2) := dk_16 107 (dk_at dksX8_read_1 20 rfl rfl)
theorem dX8_read_46 : decode cX8_read 46 = .ok (.bipush 101, 2) := dk_16 101 (dk_at dksX8_read_1 22 rfl rfl)
theorem dX8_read_48 : decode cX8_read 48 = .ok (.bipush 115, 2) := dk_16 115 (dk_at dksX8_read_2 0 rfl rfl)
theorem dX8_read_50 : decode cX8_read 50 = .ok (.iconst 0, 1) := dk_3 (dk_at dksX8_read_2 2 rfl rfl)
theorem dX8_read_51 : decode cX8_read 51 = .ok (.iconst 0, 1) := dk_3 (dk_at dksX8_read_2 3 rfl rfl)
theorem dX8_read_52 : decode cX8_read 52 = .ok (.iconst 0, 1) := dk_3 (dk_at dksX8_read_2 4 rfl rfl)
theorem dX8_read_53 : decode cX8_read 53 = .ok (.invokevirtual 205, 3) := dk_182 0 205 (dk_at dksX8_read_2 5 rfl rfl)
theorem dX8_read_56 : decode cX8_read 56 = .ok (.invokevirtual 260, 3) := dk_182 1 4 (dk_at dksX8_read_2 8 rfl rfl)
theorem dX8_read_59 : decode cX8_read 59 = .ok (.istore_n 3, 1) := dk_62 (dk_at dksX8_read_2 11 rfl rfl)
theorem dX8_read_60 : decode cX8_read 60 = .ok (.aload_n 0, 1) := dk_42 (dk_at dksX8_read_2 12 rfl rfl)
theorem dX8_read_61 : decode cX8_read 61 = .ok (.getfield 185, 3) := dk_180 0 185 (dk_at dksX8_read_2 13 rfl rfl)
theorem dX8_read_64 : decode cX8_read 64 = .ok (.ifCond .eq 7, 3) := dk_153 0 7 (dk_at dksX8_read_2 16 rfl rfl)
theorem dX8_read_67 : decode cX8_read 67 = .ok (.iconst 0, 1) := dk_3 (dk_at dksX8_read_2 19 rfl rfl)
theorem dX8_read_68 : decode cX8_read 68 = .ok (.goto 24, 3) := dk_167 0 24 (dk_at dksX8_read_2 20 rfl rfl)
theorem dX8_read_71 : decode cX8_read 71 = .ok (.aload_n 0, 1) := dk_42 (dk_at dksX8_read_2 23 rfl rfl)
theorem dX8_read_72 : decode cX8_read 72 = .ok (.aload_n 0, 1) := dk_42 (dk_at dksX8_read_3 0 rfl rfl)
theorem dX8_read_73 : decode cX8_read 73 = .ok (.bipush 107, 2) := dk_16 107 (dk_at dksX8_read_3 1 rfl rfl)
theorem dX8_read_75 : decode cX8_read 75 = .ok (.bipush 101, 2) := dk_16 101 (dk_at dksX8_read_3 3 rfl rfl)
theorem dX8_read_77 : decode cX8_read 77 = .ok (.bipush 101, 2) := dk_16 101 (dk_at dksX8_read_3 5 rfl rfl)
theorem dX8_read_79 : decode cX8_read 79 = .ok (.bipush 112, 2) := dk_16 112 (dk_at dksX8_read_3 7 rfl rfl)
theorem dX8_read_81 : decode cX8_read 81 = .ok (.bipush 115, 2) := dk_16 115 (dk_at dksX8_read_3 9 rfl rfl)
theorem dX8_read_83 : decode cX8_read 83 = .ok (.iconst 0, 1) := dk_3 (dk_at dksX8_read_3 11 rfl rfl)
theorem dX8_read_84 : decode cX8_read 84 = .ok (.iconst 0, 1) := dk_3 (dk_at dksX8_read_3 12 rfl rfl)
theorem dX8_read_85 : decode cX8_read 85 = .ok (.iconst 0, 1) := dk_3 (dk_at dksX8_read_3 13 rfl rfl)
theorem dX8_read_86 : decode cX8_read 86 = .ok (.invokevirtual 205, 3) := dk_182 0 205 (dk_at dksX8_read_3 14 rfl rfl)
theorem dX8_read_89 : decode cX8_read 89 = .ok (.invokevirtual 260, 3) := dk_182 1 4 (dk_at dksX8_read_3 17 rfl rfl)
theorem dX8_read_92 : decode cX8_read 92 = .ok (.istore 4, 2) := dk_54 4 (dk_at dksX8_read_3 20 rfl rfl)
theorem dX8_read_94 : decode cX8_read 94 = .ok (.aload_n 0, 1) := dk_42 (dk_at dksX8_read_3 22 rfl rfl)
theorem dX8_read_95 : decode cX8_read 95 = .ok (.getfield 185, 3) := dk_180 0 185 (dk_at dksX8_read_4 0 rfl rfl)
theorem dX8_read_98 : decode cX8_read 98 = .ok (.ifCond .eq 7, 3) := dk_153 0 7 (dk_at dksX8_read_4 3 rfl rfl)
theorem dX8_read_101 : decode cX8_read 101 = .ok (.iconst 0, 1) := dk_3 (dk_at dksX8_read_4 6 rfl rfl)
theorem dX8_read_102 : decode cX8_read 102 = .ok (.goto 25, 3) := dk_167 0 25 (dk_at dksX8_read_4 7 rfl rfl)
theorem dX8_read_105 : decode cX8_read 105 = .ok (.aload_n 0, 1) := dk_42 (dk_at dksX8_read_4 10 rfl rfl)
theorem dX8_read_106 : decode cX8_read 106 = .ok (.aload_n 0, 1) := dk_42 (dk_at dksX8_read_4 11 rfl rfl)
theorem dX8_read_107 : decode cX8_read 107 = .ok (.bipush 115, 2) := dk_16 115 (dk_at dksX8_read_4 12 rfl rfl)
theorem dX8_read_109 : decode cX8_read 109 = .ok (.bipush 104, 2) := dk_16 104 (dk_at dksX8_read_4 14 rfl rfl)
theorem dX8_read_111 : decode cX8_read 111 = .ok (.bipush 97, 2) := dk_16 97 (dk_at dksX8_read_4 16 rfl rfl)
theorem dX8_read_113 : decode cX8_read 113 = .ok (.bipush 107, 2) := dk_16 107 (dk_at dksX8_read_4 18 rfl rfl)
theorem dX8_read_115 : decode cX8_read 115 = .ok (.bipush 101, 2) := dk_16 101 (dk_at dksX8_read_4 20 rfl rfl)
theorem dX8_read_117 : decode cX8_read 117 = .ok (.bipush 115, 2) := dk_16 115 (dk_at dksX8_read_4 22 rfl rfl)
theorem dX8_read_119 : decode cX8_read 119 = .ok (.iconst 0, 1) := dk_3 (dk_at dksX8_read_5 0 rfl rfl)
theorem dX8_read_120 : decode cX8_read 120 = .ok (.iconst 0, 1) := dk_3 (dk_at dksX8_read_5 1 rfl rfl)
theorem dX8_read_121 : decode cX8_read 121 = .ok (.invokevirtual 205, 3) := dk_182 0 205 (dk_at dksX8_read_5 2 rfl rfl)
theorem dX8_read_124 : decode cX8_read 124 = .ok (.invokevirtual 260, 3) := dk_182 1 4 (dk_at dksX8_read_5 5 rfl rfl)
theorem dX8_read_127 : decode cX8_read 127 = .ok (.istore 5, 2) := dk_54 5 (dk_at dksX8_read_5 8 rfl rfl)
theorem dX8_read_129 : decode cX8_read 129 = .ok (.aload_n 0, 1) := dk_42 (dk_at dksX8_read_5 10 rfl rfl)
theorem dX8_read_130 : decode cX8_read 130 = .ok (.getfield 185, 3) := dk_180 0 185 (dk_at dksX8_read_5 11 rfl rfl)
theorem dX8_read_133 : decode cX8_read 133 = .ok (.ifCond .ne 14, 3) := dk_154 0 14 (dk_at dksX8_read_5 14 rfl rfl)
theorem dX8_read_136 : decode cX8_read 136 = .ok (.aload_n 0, 1) := dk_42 (dk_at dksX8_read_5 17 rfl rfl)
theorem dX8_read_137 : decode cX8_read 137 = .ok (.getfield 170, 3) := dk_180 0 170 (dk_at dksX8_read_5 18 rfl rfl)
theorem dX8_read_140 : decode cX8_read 140 = .ok (.ifCond .eq 7, 3) := dk_153 0 7 (dk_at dksX8_read_5 21 rfl rfl)
theorem dX8_read_143 : decode cX8_read 143 = .ok (.aload_n 0, 1) := dk_42 (dk_at dksX8_read_6 0 rfl rfl)
theorem dX8_read_144 : decode cX8_read 144 = .ok (.invokevirtual 199, 3) := dk_182 0 199 (dk_at dksX8_read_6 1 rfl rfl)
theorem dX8_read_147 : decode cX8_read 147 = .ok (.iload_n 2, 1) := dk_28 (dk_at dksX8_read_6 4 rfl rfl)
theorem dX8_read_148 : decode cX8_read 148 = .ok (.ifCond .ne 7, 3) := dk_154 0 7 (dk_at dksX8_read_6 5 rfl rfl)
theorem dX8_read_151 : decode cX8_read 151 = .ok (.iload_n 3, 1) := dk_29 (dk_at dksX8_read_6 8 rfl rfl)
theorem dX8_read_152 : decode cX8_read 152 = .ok (.goto 15, 3) := dk_167 0 15 (dk_at dksX8_read_6 9 rfl rfl)
theorem dX8_read_155 : decode cX8_read 155 = .ok (.iload_n 2, 1) := dk_28 (dk_at dksX8_read_6 12 rfl rfl)
theorem dX8_read_156 : decode cX8_read 156 = .ok (.iconst 1, 1) := dk_4 (dk_at dksX8_read_6 13 rfl rfl)
theorem dX8_read_157 : decode cX8_read 157 = .ok (.if_icmp .ne 8, 3) := dk_160 0 8 (dk_at dksX8_read_6 14 rfl rfl)
theorem dX8_read_160 : decode cX8_read 160 = .ok (.iload 4, 2) := dk_21 4 (dk_at dksX8_read_6 17 rfl rfl)
theorem dX8_read_162 : decode cX8_read 162 = .ok (.goto 5, 3) := dk_167 0 5 (dk_at dksX8_read_6 19 rfl rfl)
theorem dX8_read_165 : decode cX8_read 165 = .ok (.iload 5, 2) := dk_21 5 (dk_at dksX8_read_6 22 rfl rfl)
theorem dX8_read_167 : decode cX8_read 167 = .ok (.ireturn, 1) := dk_172 (dk_at dksX8_read_7 0 rfl rfl)
abbrev cX8_next : ByteArray := prog_16_method_18_code
def yX8_next : MethodName := ⟨RX8, "next", "()V"⟩
def dkwX8_next_13 : List UInt8 := [181, 0, 170, 42, 27, 133, 181, 0, 181, 42, 89, 180, 0, 161, 4, 96, 181, 0, 161, 177]
abbrev dktX8_next_13 : List UInt8 := dkwX8_next_13 ++ []
def dkwX8_next_12 : List UInt8 := [159, 0, 21, 27, 16, 42, 159, 0, 15, 27, 16, 60, 159, 0, 9, 27, 16, 61, 160, 0, 24, 42, 6]
abbrev dktX8_next_12 : List UInt8 := dkwX8_next_12 ++ dktX8_next_13
def dkwX8_next_11 : List UInt8 := [159, 0, 45, 27, 16, 41, 159, 0, 39, 27, 16, 59, 159, 0, 33, 27, 16, 43, 159, 0, 27, 27, 16, 45]
abbrev dktX8_next_11 : List UInt8 := dkwX8_next_11 ++ dktX8_next_12
def dkwX8_next_10 : List UInt8 := [167, 255, 184, 42, 28, 7, 164, 0, 7, 7, 167, 0, 4, 5, 181, 0, 170, 167, 0, 72, 27, 16, 40]
abbrev dktX8_next_10 : List UInt8 := dkwX8_next_10 ++ dktX8_next_11
def dkwX8_next_9 : List UInt8 := [167, 0, 7, 42, 180, 0, 181, 181, 0, 181, 132, 2, 1, 42, 89, 180, 0, 161, 4, 96, 181, 0, 161]
abbrev dktX8_next_9 : List UInt8 := dkwX8_next_9 ++ dktX8_next_10
def dkwX8_next_8 : List UInt8 := [20, 0, 136, 42, 180, 0, 181, 105, 42, 42, 180, 0, 161, 182, 0, 164, 133, 97, 20, 0, 177, 101]
abbrev dktX8_next_8 : List UInt8 := dkwX8_next_8 ++ dktX8_next_9
def dkwX8_next_7 : List UInt8 := [182, 0, 164, 133, 20, 0, 177, 20, 0, 179, 184, 0, 91, 153, 0, 57, 42, 28, 7, 162, 0, 28]
abbrev dktX8_next_7 : List UInt8 := dkwX8_next_7 ++ dktX8_next_8
def dkwX8_next_6 : List UInt8 := [184, 0, 91, 153, 0, 107, 42, 5, 181, 0, 170, 42, 9, 181, 0, 181, 3, 61, 42, 42, 180, 0, 161]
abbrev dktX8_next_6 : List UInt8 := dkwX8_next_6 ++ dktX8_next_7
def dkwX8_next_5 : List UInt8 := [153, 0, 203, 42, 89, 180, 0, 161, 4, 96, 181, 0, 161, 167, 255, 225, 27, 133, 20, 0, 177, 20, 0, 179]
abbrev dktX8_next_5 : List UInt8 := dkwX8_next_5 ++ dktX8_next_6
def dkwX8_next_4 : List UInt8 := [42, 4, 181, 0, 170, 42, 42, 180, 0, 161, 182, 0, 164, 133, 20, 0, 173, 20, 0, 175, 184, 0, 91]
abbrev dktX8_next_4 : List UInt8 := dkwX8_next_4 ++ dktX8_next_5
def dkwX8_next_3 : List UInt8 := [42, 180, 0, 155, 181, 0, 167, 167, 0, 243, 27, 133, 20, 0, 173, 20, 0, 175, 184, 0, 91, 153, 0, 42]
abbrev dktX8_next_3 : List UInt8 := dkwX8_next_3 ++ dktX8_next_4
def dkwX8_next_2 : List UInt8 := [42, 42, 180, 0, 161, 182, 0, 164, 60, 42, 7, 181, 0, 170, 27, 156, 0, 19, 42, 3, 181, 0, 170, 42]
abbrev dktX8_next_2 : List UInt8 := dkwX8_next_2 ++ dktX8_next_3
def dkwX8_next_1 : List UInt8 := [160, 0, 16, 42, 89, 180, 0, 161, 4, 96, 181, 0, 161, 167, 255, 220, 42, 42, 180, 0, 161, 181, 0, 167]
abbrev dktX8_next_1 : List UInt8 := dkwX8_next_1 ++ dktX8_next_2
def dkwX8_next_0 : List UInt8 := [42, 42, 180, 0, 161, 182, 0, 164, 16, 32, 159, 0, 16, 42, 42, 180, 0, 161, 182, 0, 164, 16, 10]
abbrev dktX8_next_0 : List UInt8 := dkwX8_next_0 ++ dktX8_next_1
theorem dksX8_next_0 : cX8_next.data.toList.drop 0 = dktX8_next_0 := by decide +kernel
theorem dksX8_next_1 : cX8_next.data.toList.drop 23 = dktX8_next_1 := dk_seg dksX8_next_0 23 rfl rfl
theorem dksX8_next_2 : cX8_next.data.toList.drop 47 = dktX8_next_2 := dk_seg dksX8_next_1 24 rfl rfl
theorem dksX8_next_3 : cX8_next.data.toList.drop 71 = dktX8_next_3 := dk_seg dksX8_next_2 24 rfl rfl
theorem dksX8_next_4 : cX8_next.data.toList.drop 95 = dktX8_next_4 := dk_seg dksX8_next_3 24 rfl rfl
theorem dksX8_next_5 : cX8_next.data.toList.drop 118 = dktX8_next_5 := dk_seg dksX8_next_4 23 rfl rfl
theorem dksX8_next_6 : cX8_next.data.toList.drop 142 = dktX8_next_6 := dk_seg dksX8_next_5 24 rfl rfl
theorem dksX8_next_7 : cX8_next.data.toList.drop 165 = dktX8_next_7 := dk_seg dksX8_next_6 23 rfl rfl
theorem dksX8_next_8 : cX8_next.data.toList.drop 187 = dktX8_next_8 := dk_seg dksX8_next_7 22 rfl rfl
theorem dksX8_next_9 : cX8_next.data.toList.drop 209 = dktX8_next_9 := dk_seg dksX8_next_8 22 rfl rfl
theorem dksX8_next_10 : cX8_next.data.toList.drop 232 = dktX8_next_10 := dk_seg dksX8_next_9 23 rfl rfl
theorem dksX8_next_11 : cX8_next.data.toList.drop 255 = dktX8_next_11 := dk_seg dksX8_next_10 23 rfl rfl
theorem dksX8_next_12 : cX8_next.data.toList.drop 279 = dktX8_next_12 := dk_seg dksX8_next_11 24 rfl rfl
theorem dksX8_next_13 : cX8_next.data.toList.drop 302 = dktX8_next_13 := dk_seg dksX8_next_12 23 rfl rfl
theorem dX8_next_0 : decode cX8_next 0 = .ok (.aload_n 0, 1) := dk_42 (dk_at dksX8_next_0 0 rfl rfl)
theorem dX8_next_1 : decode cX8_next 1 = .ok (.aload_n 0, 1) := dk_42 (dk_at dksX8_next_0 1 rfl rfl)
theorem dX8_next_2 : decode cX8_next 2 = .ok (.getfield 161, 3) := dk_180 0 161 (dk_at dksX8_next_0 2 rfl rfl)
theorem dX8_next_5 : decode cX8_next 5 = .ok (.invokevirtual 164, 3) := dk_182 0 164 (dk_at dksX8_next_0 5 rfl rfl)
theorem dX8_next_8 : decode cX8_next 8 = .ok (.bipush 32, 2) := dk_16 32 (dk_at dksX8_next_0 8 rfl rfl)
theorem dX8_next_10 : decode cX8_next 10 = .ok (.if_icmp .eq 16, 3) := dk_159 0 16 (dk_at dksX8_next_0 10 rfl rfl)
theorem dX8_next_13 : decode cX8_next 13 = .ok (.aload_n 0, 1) := dk_42 (dk_at dksX8_next_0 13 rfl rfl)
theorem dX8_next_14 : decode cX8_next 14 = .ok (.aload_n 0, 1) := dk_42 (dk_at dksX8_next_0 14 rfl rfl)
theorem dX8_next_15 : decode cX8_next 15 = .ok (.getfield 161, 3) := dk_180 0 161 (dk_at dksX8_next_0 15 rfl rfl)
theorem dX8_next_18 : decode cX8_next 18 = .ok (.invokevirtual 164, 3) := dk_182 0 164 (dk_at dksX8_next_0 18 rfl rfl)
theorem dX8_next_21 : decode cX8_next 21 = .ok (.bipush 10, 2) := dk_16 10 (dk_at dksX8_next_0 21 rfl rfl)
theorem dX8_next_23 : decode cX8_next 23 = .ok (.if_icmp .ne 16, 3) := dk_160 0 16 (dk_at dksX8_next_1 0 rfl rfl)
theorem dX8_next_26 : decode cX8_next 26 = .ok (.aload_n 0, 1) := dk_42 (dk_at dksX8_next_1 3 rfl rfl)
theorem dX8_next_27 : decode cX8_next 27 = .ok (.dup, 1) := dk_89 (dk_at dksX8_next_1 4 rfl rfl)
theorem dX8_next_28 : decode cX8_next 28 = .ok (.getfield 161, 3) := dk_180 0 161 (dk_at dksX8_next_1 5 rfl rfl)
theorem dX8_next_31 : decode cX8_next 31 = .ok (.iconst 1, 1) := dk_4 (dk_at dksX8_next_1 8 rfl rfl)
theorem dX8_next_32 : decode cX8_next 32 = .ok (.iadd, 1) := dk_96 (dk_at dksX8_next_1 9 rfl rfl)
theorem dX8_next_33 : decode cX8_next 33 = .ok (.putfield 161, 3) := dk_181 0 161 (dk_at dksX8_next_1 10 rfl rfl)
theorem dX8_next_36 : decode cX8_next 36 = .ok (.goto (-36), 3) := dk_167 255 220 (dk_at dksX8_next_1 13 rfl rfl)
theorem dX8_next_39 : decode cX8_next 39 = .ok (.aload_n 0, 1) := dk_42 (dk_at dksX8_next_1 16 rfl rfl)
theorem dX8_next_40 : decode cX8_next 40 = .ok (.aload_n 0, 1) := dk_42 (dk_at dksX8_next_1 17 rfl rfl)
theorem dX8_next_41 : decode cX8_next 41 = .ok (.getfield 161, 3) := dk_180 0 161 (dk_at dksX8_next_1 18 rfl rfl)
theorem dX8_next_44 : decode cX8_next 44 = .ok (.putfield 167, 3) := dk_181 0 167 (dk_at dksX8_next_1 21 rfl rfl)
theorem dX8_next_47 : decode cX8_next 47 = .ok (.aload_n 0, 1) := dk_42 (dk_at dksX8_next_2 0 rfl rfl)
theorem dX8_next_48 : decode cX8_next 48 = .ok (.aload_n 0, 1) := dk_42 (dk_at dksX8_next_2 1 rfl rfl)
theorem dX8_next_49 : decode cX8_next 49 = .ok (.getfield 161, 3) := dk_180 0 161 (dk_at dksX8_next_2 2 rfl rfl)
theorem dX8_next_52 : decode cX8_next 52 = .ok (.invokevirtual 164, 3) := dk_182 0 164 (dk_at dksX8_next_2 5 rfl rfl)
theorem dX8_next_55 : decode cX8_next 55 = .ok (.istore_n 1, 1) := dk_60 (dk_at dksX8_next_2 8 rfl rfl)
theorem dX8_next_56 : decode cX8_next 56 = .ok (.aload_n 0, 1) := dk_42 (dk_at dksX8_next_2 9 rfl rfl)
theorem dX8_next_57 : decode cX8_next 57 = .ok (.iconst 4, 1) := dk_7 (dk_at dksX8_next_2 10 rfl rfl)
theorem dX8_next_58 : decode cX8_next 58 = .ok (.putfield 170, 3) := dk_181 0 170 (dk_at dksX8_next_2 11 rfl rfl)
theorem dX8_next_61 : decode cX8_next 61 = .ok (.iload_n 1, 1) := dk_27 (dk_at dksX8_next_2 14 rfl rfl)
theorem dX8_next_62 : decode cX8_next 62 = .ok (.ifCond .ge 19, 3) := dk_156 0 19 (dk_at dksX8_next_2 15 rfl rfl)
theorem dX8_next_65 : decode cX8_next 65 = .ok (.aload_n 0, 1) := dk_42 (dk_at dksX8_next_2 18 rfl rfl)
theorem dX8_next_66 : decode cX8_next 66 = .ok (.iconst 0, 1) := dk_3 (dk_at dksX8_next_2 19 rfl rfl)
theorem dX8_next_67 : decode cX8_next 67 = .ok (.putfield 170, 3) := dk_181 0 170 (dk_at dksX8_next_2 20 rfl rfl)
theorem dX8_next_70 : decode cX8_next 70 = .ok (.aload_n 0, 1) := dk_42 (dk_at dksX8_next_2 23 rfl rfl)
theorem dX8_next_71 : decode cX8_next 71 = .ok (.aload_n 0, 1) := dk_42 (dk_at dksX8_next_3 0 rfl rfl)
theorem dX8_next_72 : decode cX8_next 72 = .ok (.getfield 155, 3) := dk_180 0 155 (dk_at dksX8_next_3 1 rfl rfl)
theorem dX8_next_75 : decode cX8_next 75 = .ok (.putfield 167, 3) := dk_181 0 167 (dk_at dksX8_next_3 4 rfl rfl)
theorem dX8_next_78 : decode cX8_next 78 = .ok (.goto 243, 3) := dk_167 0 243 (dk_at dksX8_next_3 7 rfl rfl)
theorem dX8_next_81 : decode cX8_next 81 = .ok (.iload_n 1, 1) := dk_27 (dk_at dksX8_next_3 10 rfl rfl)
theorem dX8_next_82 : decode cX8_next 82 = .ok (.i2l, 1) := dk_133 (dk_at dksX8_next_3 11 rfl rfl)
theorem dX8_next_83 : decode cX8_next 83 = .ok (.ldc2_w 173, 3) := dk_20 0 173 (dk_at dksX8_next_3 12 rfl rfl)
theorem dX8_next_86 : decode cX8_next 86 = .ok (.ldc2_w 175, 3) := dk_20 0 175 (dk_at dksX8_next_3 15 rfl rfl)
theorem dX8_next_89 : decode cX8_next 89 = .ok (.invokestatic 91, 3) := dk_184 0 91 (dk_at dksX8_next_3 18 rfl rfl)
theorem dX8_next_92 : decode cX8_next 92 = .ok (.ifCond .eq 42, 3) := dk_153 0 42 (dk_at dksX8_next_3 21 rfl rfl)
theorem dX8_next_95 : decode cX8_next 95 = .ok (.aload_n 0, 1) := dk_42 (dk_at dksX8_next_4 0 rfl rfl)
theorem dX8_next_96 : decode cX8_next 96 = .ok (.iconst 1, 1) := dk_4 (dk_at dksX8_next_4 1 rfl rfl)
theorem dX8_next_97 : decode cX8_next 97 = .ok (.putfield 170, 3) := dk_181 0 170 (dk_at dksX8_next_4 2 rfl rfl)
theorem dX8_next_100 : decode cX8_next 100 = .ok (.aload_n 0, 1) := dk_42 (dk_at dksX8_next_4 5 rfl rfl)
theorem dX8_next_101 : decode cX8_next 101 = .ok (.aload_n 0, 1) := dk_42 (dk_at dksX8_next_4 6 rfl rfl)
theorem dX8_next_102 : decode cX8_next 102 = .ok (.getfield 161, 3) := dk_180 0 161 (dk_at dksX8_next_4 7 rfl rfl)
theorem dX8_next_105 : decode cX8_next 105 = .ok (.invokevirtual 164, 3) := dk_182 0 164 (dk_at dksX8_next_4 10 rfl rfl)
theorem dX8_next_108 : decode cX8_next 108 = .ok (.i2l, 1) := dk_133 (dk_at dksX8_next_4 13 rfl rfl)
theorem dX8_next_109 : decode cX8_next 109 = .ok (.ldc2_w 173, 3) := dk_20 0 173 (dk_at dksX8_next_4 14 rfl rfl)
theorem dX8_next_112 : decode cX8_next 112 = .ok (.ldc2_w 175, 3) := dk_20 0 175 (dk_at dksX8_next_4 17 rfl rfl)
theorem dX8_next_115 : decode cX8_next 115 = .ok (.invokestatic 91, 3) := dk_184 0 91 (dk_at dksX8_next_4 20 rfl rfl)
theorem dX8_next_118 : decode cX8_next 118 = .ok (.ifCond .eq 203, 3) := dk_153 0 203 (dk_at dksX8_next_5 0 rfl rfl)
theorem dX8_next_121 : decode cX8_next 121 = .ok (.aload_n 0, 1) := dk_42 (dk_at dksX8_next_5 3 rfl rfl)
theorem dX8_next_122 : decode cX8_next 122 = .ok (.dup, 1) := dk_89 (dk_at dksX8_next_5 4 rfl rfl)
theorem dX8_next_123 : decode cX8_next 123 = .ok (.getfield 161, 3) := dk_180 0 161 (dk_at dksX8_next_5 5 rfl rfl)
theorem dX8_next_126 : decode cX8_next 126 = .ok (.iconst 1, 1) := dk_4 (dk_at dksX8_next_5 8 rfl rfl)
theorem dX8_next_127 : decode cX8_next 127 = .ok (.iadd, 1) := dk_96 (dk_at dksX8_next_5 9 rfl rfl)
theorem dX8_next_128 : decode cX8_next 128 = .ok (.putfield 161, 3) := dk_181 0 161 (dk_at dksX8_next_5 10 rfl rfl)
theorem dX8_next_131 : decode cX8_next 131 = .ok (.goto (-31), 3) := dk_167 255 225 (dk_at dksX8_next_5 13 rfl rfl)
theorem dX8_next_134 : decode cX8_next 134 = .ok (.iload_n 1, 1) := dk_27 (dk_at dksX8_next_5 16 rfl rfl)
theorem dX8_next_135 : decode cX8_next 135 = .ok (.i2l, 1) := dk_133 (dk_at dksX8_next_5 17 rfl rfl)
theorem dX8_next_136 : decode cX8_next 136 = .ok (.ldc2_w 177, 3) := dk_20 0 177 (dk_at dksX8_next_5 18 rfl rfl)
theorem dX8_next_139 : decode cX8_next 139 = .ok (.ldc2_w 179, 3) := dk_20 0 179 (dk_at dksX8_next_5 21 rfl rfl)
theorem dX8_next_142 : decode cX8_next 142 = .ok (.invokestatic 91, 3) := dk_184 0 91 (dk_at dksX8_next_6 0 rfl rfl)
theorem dX8_next_145 : decode cX8_next 145 = .ok (.ifCond .eq 107, 3) := dk_153 0 107 (dk_at dksX8_next_6 3 rfl rfl)
theorem dX8_next_148 : decode cX8_next 148 = .ok (.aload_n 0, 1) := dk_42 (dk_at dksX8_next_6 6 rfl rfl)
theorem dX8_next_149 : decode cX8_next 149 = .ok (.iconst 2, 1) := dk_5 (dk_at dksX8_next_6 7 rfl rfl)
theorem dX8_next_150 : decode cX8_next 150 = .ok (.putfield 170, 3) := dk_181 0 170 (dk_at dksX8_next_6 8 rfl rfl)
theorem dX8_next_153 : decode cX8_next 153 = .ok (.aload_n 0, 1) := dk_42 (dk_at dksX8_next_6 11 rfl rfl)
theorem dX8_next_154 : decode cX8_next 154 = .ok (.lconst 0, 1) := dk_9 (dk_at dksX8_next_6 12 rfl rfl)
theorem dX8_next_155 : decode cX8_next 155 = .ok (.putfield 181, 3) := dk_181 0 181 (dk_at dksX8_next_6 13 rfl rfl)
theorem dX8_next_158 : decode cX8_next 158 = .ok (.iconst 0, 1) := dk_3 (dk_at dksX8_next_6 16 rfl rfl)
theorem dX8_next_159 : decode cX8_next 159 = .ok (.istore_n 2, 1) := dk_61 (dk_at dksX8_next_6 17 rfl rfl)
theorem dX8_next_160 : decode cX8_next 160 = .ok (.aload_n 0, 1) := dk_42 (dk_at dksX8_next_6 18 rfl rfl)
theorem dX8_next_161 : decode cX8_next 161 = .ok (.aload_n 0, 1) := dk_42 (dk_at dksX8_next_6 19 rfl rfl)
theorem dX8_next_162 : decode cX8_next 162 = .ok (.getfield 161, 3) := dk_180 0 161 (dk_at dksX8_next_6 20 rfl rfl)
theorem dX8_next_165 : decode cX8_next 165 = .ok (.invokevirtual 164, 3) := dk_182 0 164 (dk_at dksX8_next_7 0 rfl rfl)
theorem dX8_next_168 : decode cX8_next 168 = .ok (.i2l, 1) := dk_133 (dk_at dksX8_next_7 3 rfl rfl)
theorem dX8_next_169 : decode cX8_next 169 = .ok (.ldc2_w 177, 3) := dk_20 0 177 (dk_at dksX8_next_7 4 rfl rfl)
theorem dX8_next_172 : decode cX8_next 172 = .ok (.ldc2_w 179, 3) := dk_20 0 179 (dk_at dksX8_next_7 7 rfl rfl)
theorem dX8_next_175 : decode cX8_next 175 = .ok (.invokestatic 91, 3) := dk_184 0 91 (dk_at dksX8_next_7 10 rfl rfl)
theorem dX8_next_178 : decode cX8_next 178 = .ok (.ifCond .eq 57, 3) := dk_153 0 57 (dk_at dksX8_next_7 13 rfl rfl)
theorem dX8_next_181 : decode cX8_next 181 = .ok (.aload_n 0, 1) := dk_42 (dk_at dksX8_next_7 16 rfl rfl)
theorem dX8_next_182 : decode cX8_next 182 = .ok (.iload_n 2, 1) := dk_28 (dk_at dksX8_next_7 17 rfl rfl)
theorem dX8_next_183 : decode cX8_next 183 = .ok (.iconst 4, 1) := dk_7 (dk_at dksX8_next_7 18 rfl rfl)
theorem dX8_next_184 : decode cX8_next 184 = .ok (.if_icmp .ge 28, 3) := dk_162 0 28 (dk_at dksX8_next_7 19 rfl rfl)
theorem dX8_next_187 : decode cX8_next 187 = .ok (.ldc2_w 136, 3) := dk_20 0 136 (dk_at dksX8_next_8 0 rfl rfl)
theorem dX8_next_190 : decode cX8_next 190 = .ok (.aload_n 0, 1) := dk_42 (dk_at dksX8_next_8 3 rfl rfl)
theorem dX8_next_191 : decode cX8_next 191 = .ok (.getfield 181, 3) := dk_180 0 181 (dk_at dksX8_next_8 4 rfl rfl)
theorem dX8_next_194 : decode cX8_next 194 = .ok (.lmul, 1) := dk_105 (dk_at dksX8_next_8 7 rfl rfl)
theorem dX8_next_195 : decode cX8_next 195 = .ok (.aload_n 0, 1) := dk_42 (dk_at dksX8_next_8 8 rfl rfl)
theorem dX8_next_196 : decode cX8_next 196 = .ok (.aload_n 0, 1) := dk_42 (dk_at dksX8_next_8 9 rfl rfl)
theorem dX8_next_197 : decode cX8_next 197 = .ok (.getfield 161, 3) := dk_180 0 161 (dk_at dksX8_next_8 10 rfl rfl)
theorem dX8_next_200 : decode cX8_next 200 = .ok (.invokevirtual 164, 3) := dk_182 0 164 (dk_at dksX8_next_8 13 rfl rfl)
theorem dX8_next_203 : decode cX8_next 203 = .ok (.i2l, 1) := dk_133 (dk_at dksX8_next_8 16 rfl rfl)
theorem dX8_next_204 : decode cX8_next 204 = .ok (.ladd, 1) := dk_97 (dk_at dksX8_next_8 17 rfl rfl)
theorem dX8_next_205 : decode cX8_next 205 = .ok (.ldc2_w 177, 3) := dk_20 0 177 (dk_at dksX8_next_8 18 rfl rfl)
theorem dX8_next_208 : decode cX8_next 208 = .ok (.lsub, 1) := dk_101 (dk_at dksX8_next_8 21 rfl rfl)
theorem dX8_next_209 : decode cX8_next 209 = .ok (.goto 7, 3) := dk_167 0 7 (dk_at dksX8_next_9 0 rfl rfl)
theorem dX8_next_212 : decode cX8_next 212 = .ok (.aload_n 0, 1) := dk_42 (dk_at dksX8_next_9 3 rfl rfl)
theorem dX8_next_213 : decode cX8_next 213 = .ok (.getfield 181, 3) := dk_180 0 181 (dk_at dksX8_next_9 4 rfl rfl)
theorem dX8_next_216 : decode cX8_next 216 = .ok (.putfield 181, 3) := dk_181 0 181 (dk_at dksX8_next_9 7 rfl rfl)
theorem dX8_next_219 : decode cX8_next 219 = .ok (.iinc 2 1, 3) := dk_132 2 1 (dk_at dksX8_next_9 10 rfl rfl)
theorem dX8_next_222 : decode cX8_next 222 = .ok (.aload_n 0, 1) := dk_42 (dk_at dksX8_next_9 13 rfl rfl)
theorem dX8_next_223 : decode cX8_next 223 = .ok (.dup, 1) := dk_89 (dk_at dksX8_next_9 14 rfl rfl)
theorem dX8_next_224 : decode cX8_next 224 = .ok (.getfield 161, 3) := dk_180 0 161 (dk_at dksX8_next_9 15 rfl rfl)
theorem dX8_next_227 : decode cX8_next 227 = .ok (.iconst 1, 1) := dk_4 (dk_at dksX8_next_9 18 rfl rfl)
theorem dX8_next_228 : decode cX8_next 228 = .ok (.iadd, 1) := dk_96 (dk_at dksX8_next_9 19 rfl rfl)
theorem dX8_next_229 : decode cX8_next 229 = .ok (.putfield 161, 3) := dk_181 0 161 (dk_at dksX8_next_9 20 rfl rfl)
theorem dX8_next_232 : decode cX8_next 232 = .ok (.goto (-72), 3) := dk_167 255 184 (dk_at dksX8_next_10 0 rfl rfl)
theorem dX8_next_235 : decode cX8_next 235 = .ok (.aload_n 0, 1) := dk_42 (dk_at dksX8_next_10 3 rfl rfl)
theorem dX8_next_236 : decode cX8_next 236 = .ok (.iload_n 2, 1) := dk_28 (dk_at dksX8_next_10 4 rfl rfl)
theorem dX8_next_237 : decode cX8_next 237 = .ok (.iconst 4, 1) := dk_7 (dk_at dksX8_next_10 5 rfl rfl)
theorem dX8_next_238 : decode cX8_next 238 = .ok (.if_icmp .le 7, 3) := dk_164 0 7 (dk_at dksX8_next_10 6 rfl rfl)
theorem dX8_next_241 : decode cX8_next 241 = .ok (.iconst 4, 1) := dk_7 (dk_at dksX8_next_10 9 rfl rfl)
theorem dX8_next_242 : decode cX8_next 242 = .ok (.goto 4, 3) := dk_167 0 4 (dk_at dksX8_next_10 10 rfl rfl)
theorem dX8_next_245 : decode cX8_next 245 = .ok (.iconst 2, 1) := dk_5 (dk_at dksX8_next_10 13 rfl rfl)
theorem dX8_next_246 : decode cX8_next 246 = .ok (.putfield 170, 3) := dk_181 0 170 (dk_at dksX8_next_10 14 rfl rfl)
theorem dX8_next_249 : decode cX8_next 249 = .ok (.goto 72, 3) := dk_167 0 72 (dk_at dksX8_next_10 17 rfl rfl)
theorem dX8_next_252 : decode cX8_next 252 = .ok (.iload_n 1, 1) := dk_27 (dk_at dksX8_next_10 20 rfl rfl)
theorem dX8_next_253 : decode cX8_next 253 = .ok (.bipush 40, 2) := dk_16 40 (dk_at dksX8_next_10 21 rfl rfl)
theorem dX8_next_255 : decode cX8_next 255 = .ok (.if_icmp .eq 45, 3) := dk_159 0 45 (dk_at dksX8_next_11 0 rfl rfl)
theorem dX8_next_258 : decode cX8_next 258 = .ok (.iload_n 1, 1) := dk_27 (dk_at dksX8_next_11 3 rfl rfl)
theorem dX8_next_259 : decode cX8_next 259 = .ok (.bipush 41, 2) := dk_16 41 (dk_at dksX8_next_11 4 rfl rfl)
theorem dX8_next_261 : decode cX8_next 261 = .ok (.if_icmp .eq 39, 3) := dk_159 0 39 (dk_at dksX8_next_11 6 rfl rfl)
theorem dX8_next_264 : decode cX8_next 264 = .ok (.iload_n 1, 1) := dk_27 (dk_at dksX8_next_11 9 rfl rfl)
theorem dX8_next_265 : decode cX8_next 265 = .ok (.bipush 59, 2) := dk_16 59 (dk_at dksX8_next_11 10 rfl rfl)
theorem dX8_next_267 : decode cX8_next 267 = .ok (.if_icmp .eq 33, 3) := dk_159 0 33 (dk_at dksX8_next_11 12 rfl rfl)
theorem dX8_next_270 : decode cX8_next 270 = .ok (.iload_n 1, 1) := dk_27 (dk_at dksX8_next_11 15 rfl rfl)
theorem dX8_next_271 : decode cX8_next 271 = .ok (.bipush 43, 2) := dk_16 43 (dk_at dksX8_next_11 16 rfl rfl)
theorem dX8_next_273 : decode cX8_next 273 = .ok (.if_icmp .eq 27, 3) := dk_159 0 27 (dk_at dksX8_next_11 18 rfl rfl)
theorem dX8_next_276 : decode cX8_next 276 = .ok (.iload_n 1, 1) := dk_27 (dk_at dksX8_next_11 21 rfl rfl)
theorem dX8_next_277 : decode cX8_next 277 = .ok (.bipush 45, 2) := dk_16 45 (dk_at dksX8_next_11 22 rfl rfl)
theorem dX8_next_279 : decode cX8_next 279 = .ok (.if_icmp .eq 21, 3) := dk_159 0 21 (dk_at dksX8_next_12 0 rfl rfl)
theorem dX8_next_282 : decode cX8_next 282 = .ok (.iload_n 1, 1) := dk_27 (dk_at dksX8_next_12 3 rfl rfl)
theorem dX8_next_283 : decode cX8_next 283 = .ok (.bipush 42, 2) := dk_16 42 (dk_at dksX8_next_12 4 rfl rfl)
theorem dX8_next_285 : decode cX8_next 285 = .ok (.if_icmp .eq 15, 3) := dk_159 0 15 (dk_at dksX8_next_12 6 rfl rfl)
theorem dX8_next_288 : decode cX8_next 288 = .ok (.iload_n 1, 1) := dk_27 (dk_at dksX8_next_12 9 rfl rfl)
theorem dX8_next_289 : decode cX8_next 289 = .ok (.bipush 60, 2) := dk_16 60 (dk_at dksX8_next_12 10 rfl rfl)
theorem dX8_next_291 : decode cX8_next 291 = .ok (.if_icmp .eq 9, 3) := dk_159 0 9 (dk_at dksX8_next_12 12 rfl rfl)
theorem dX8_next_294 : decode cX8_next 294 = .ok (.iload_n 1, 1) := dk_27 (dk_at dksX8_next_12 15 rfl rfl)
theorem dX8_next_295 : decode cX8_next 295 = .ok (.bipush 61, 2) := dk_16 61 (dk_at dksX8_next_12 16 rfl rfl)
theorem dX8_next_297 : decode cX8_next 297 = .ok (.if_icmp .ne 24, 3) := dk_160 0 24 (dk_at dksX8_next_12 18 rfl rfl)
theorem dX8_next_300 : decode cX8_next 300 = .ok (.aload_n 0, 1) := dk_42 (dk_at dksX8_next_12 21 rfl rfl)
theorem dX8_next_301 : decode cX8_next 301 = .ok (.iconst 3, 1) := dk_6 (dk_at dksX8_next_12 22 rfl rfl)
theorem dX8_next_302 : decode cX8_next 302 = .ok (.putfield 170, 3) := dk_181 0 170 (dk_at dksX8_next_13 0 rfl rfl)
theorem dX8_next_305 : decode cX8_next 305 = .ok (.aload_n 0, 1) := dk_42 (dk_at dksX8_next_13 3 rfl rfl)
theorem dX8_next_306 : decode cX8_next 306 = .ok (.iload_n 1, 1) := dk_27 (dk_at dksX8_next_13 4 rfl rfl)
theorem dX8_next_307 : decode cX8_next 307 = .ok (.i2l, 1) := dk_133 (dk_at dksX8_next_13 5 rfl rfl)
theorem dX8_next_308 : decode cX8_next 308 = .ok (.putfield 181, 3) := dk_181 0 181 (dk_at dksX8_next_13 6 rfl rfl)
theorem dX8_next_311 : decode cX8_next 311 = .ok (.aload_n 0, 1) := dk_42 (dk_at dksX8_next_13 9 rfl rfl)
theorem dX8_next_312 : decode cX8_next 312 = .ok (.dup, 1) := dk_89 (dk_at dksX8_next_13 10 rfl rfl)
theorem dX8_next_313 : decode cX8_next 313 = .ok (.getfield 161, 3) := dk_180 0 161 (dk_at dksX8_next_13 11 rfl rfl)
theorem dX8_next_316 : decode cX8_next 316 = .ok (.iconst 1, 1) := dk_4 (dk_at dksX8_next_13 14 rfl rfl)
theorem dX8_next_317 : decode cX8_next 317 = .ok (.iadd, 1) := dk_96 (dk_at dksX8_next_13 15 rfl rfl)
theorem dX8_next_318 : decode cX8_next 318 = .ok (.putfield 161, 3) := dk_181 0 161 (dk_at dksX8_next_13 16 rfl rfl)
theorem dX8_next_321 : decode cX8_next 321 = .ok (.return_, 1) := dk_177 (dk_at dksX8_next_13 19 rfl rfl)
abbrev cX8_byteAt : ByteArray := prog_16_method_17_code
def yX8_byteAt : MethodName := ⟨RX8, "byteAt", "(I)I"⟩
def dkwX8_byteAt_0 : List UInt8 := [27, 42, 180, 0, 155, 162, 0, 17, 42, 180, 0, 13, 42, 180, 0, 158, 27, 96, 46, 167, 0, 4, 2, 172]
abbrev dktX8_byteAt_0 : List UInt8 := dkwX8_byteAt_0 ++ []
theorem dksX8_byteAt_0 : cX8_byteAt.data.toList.drop 0 = dktX8_byteAt_0 := by decide +kernel
theorem dX8_byteAt_0 : decode cX8_byteAt 0 = .ok (.iload_n 1, 1) := dk_27 (dk_at dksX8_byteAt_0 0 rfl rfl)
theorem dX8_byteAt_1 : decode cX8_byteAt 1 = .ok (.aload_n 0, 1) := dk_42 (dk_at dksX8_byteAt_0 1 rfl rfl)
theorem dX8_byteAt_2 : decode cX8_byteAt 2 = .ok (.getfield 155, 3) := dk_180 0 155 (dk_at dksX8_byteAt_0 2 rfl rfl)
theorem dX8_byteAt_5 : decode cX8_byteAt 5 = .ok (.if_icmp .ge 17, 3) := dk_162 0 17 (dk_at dksX8_byteAt_0 5 rfl rfl)
theorem dX8_byteAt_8 : decode cX8_byteAt 8 = .ok (.aload_n 0, 1) := dk_42 (dk_at dksX8_byteAt_0 8 rfl rfl)
theorem dX8_byteAt_9 : decode cX8_byteAt 9 = .ok (.getfield 13, 3) := dk_180 0 13 (dk_at dksX8_byteAt_0 9 rfl rfl)
theorem dX8_byteAt_12 : decode cX8_byteAt 12 = .ok (.aload_n 0, 1) := dk_42 (dk_at dksX8_byteAt_0 12 rfl rfl)
theorem dX8_byteAt_13 : decode cX8_byteAt 13 = .ok (.getfield 158, 3) := dk_180 0 158 (dk_at dksX8_byteAt_0 13 rfl rfl)
theorem dX8_byteAt_16 : decode cX8_byteAt 16 = .ok (.iload_n 1, 1) := dk_27 (dk_at dksX8_byteAt_0 16 rfl rfl)
theorem dX8_byteAt_17 : decode cX8_byteAt 17 = .ok (.iadd, 1) := dk_96 (dk_at dksX8_byteAt_0 17 rfl rfl)
theorem dX8_byteAt_18 : decode cX8_byteAt 18 = .ok (.iaload, 1) := dk_46 (dk_at dksX8_byteAt_0 18 rfl rfl)
theorem dX8_byteAt_19 : decode cX8_byteAt 19 = .ok (.goto 4, 3) := dk_167 0 4 (dk_at dksX8_byteAt_0 19 rfl rfl)
theorem dX8_byteAt_22 : decode cX8_byteAt 22 = .ok (.iconst (-1), 1) := dk_2 (dk_at dksX8_byteAt_0 22 rfl rfl)
theorem dX8_byteAt_23 : decode cX8_byteAt 23 = .ok (.ireturn, 1) := dk_172 (dk_at dksX8_byteAt_0 23 rfl rfl)
abbrev cX8_isWord : ByteArray := prog_16_method_21_code
def yX8_isWord : MethodName := ⟨RX8, "isWord", "(IIIIIIII)Z"⟩
def dkwX8_isWord_4 : List UInt8 := [153, 0, 18, 42, 16, 7, 21, 8, 182, 0, 192, 153, 0, 7, 4, 167, 0, 4, 3, 172]
abbrev dktX8_isWord_4 : List UInt8 := dkwX8_isWord_4 ++ []
def dkwX8_isWord_3 : List UInt8 := [182, 0, 192, 153, 0, 39, 42, 8, 21, 6, 182, 0, 192, 153, 0, 29, 42, 16, 6, 21, 7, 182, 0, 192]
abbrev dktX8_isWord_3 : List UInt8 := dkwX8_isWord_3 ++ dktX8_isWord_4
def dkwX8_isWord_2 : List UInt8 := [42, 5, 29, 182, 0, 192, 153, 0, 59, 42, 6, 21, 4, 182, 0, 192, 153, 0, 49, 42, 7, 21, 5]
abbrev dktX8_isWord_2 : List UInt8 := dkwX8_isWord_2 ++ dktX8_isWord_3
def dkwX8_isWord_1 : List UInt8 := [16, 8, 96, 163, 0, 86, 42, 3, 27, 182, 0, 192, 153, 0, 77, 42, 4, 28, 182, 0, 192, 153, 0, 68]
abbrev dktX8_isWord_1 : List UInt8 := dkwX8_isWord_1 ++ dktX8_isWord_2
def dkwX8_isWord_0 : List UInt8 := [42, 180, 0, 185, 154, 0, 108, 42, 180, 0, 170, 4, 160, 0, 100, 42, 180, 0, 161, 42, 180, 0, 167]
abbrev dktX8_isWord_0 : List UInt8 := dkwX8_isWord_0 ++ dktX8_isWord_1
theorem dksX8_isWord_0 : cX8_isWord.data.toList.drop 0 = dktX8_isWord_0 := by decide +kernel
theorem dksX8_isWord_1 : cX8_isWord.data.toList.drop 23 = dktX8_isWord_1 := dk_seg dksX8_isWord_0 23 rfl rfl
theorem dksX8_isWord_2 : cX8_isWord.data.toList.drop 47 = dktX8_isWord_2 := dk_seg dksX8_isWord_1 24 rfl rfl
theorem dksX8_isWord_3 : cX8_isWord.data.toList.drop 70 = dktX8_isWord_3 := dk_seg dksX8_isWord_2 23 rfl rfl
theorem dksX8_isWord_4 : cX8_isWord.data.toList.drop 94 = dktX8_isWord_4 := dk_seg dksX8_isWord_3 24 rfl rfl
theorem dX8_isWord_0 : decode cX8_isWord 0 = .ok (.aload_n 0, 1) := dk_42 (dk_at dksX8_isWord_0 0 rfl rfl)
theorem dX8_isWord_1 : decode cX8_isWord 1 = .ok (.getfield 185, 3) := dk_180 0 185 (dk_at dksX8_isWord_0 1 rfl rfl)
theorem dX8_isWord_4 : decode cX8_isWord 4 = .ok (.ifCond .ne 108, 3) := dk_154 0 108 (dk_at dksX8_isWord_0 4 rfl rfl)
theorem dX8_isWord_7 : decode cX8_isWord 7 = .ok (.aload_n 0, 1) := dk_42 (dk_at dksX8_isWord_0 7 rfl rfl)
theorem dX8_isWord_8 : decode cX8_isWord 8 = .ok (.getfield 170, 3) := dk_180 0 170 (dk_at dksX8_isWord_0 8 rfl rfl)
theorem dX8_isWord_11 : decode cX8_isWord 11 = .ok (.iconst 1, 1) := dk_4 (dk_at dksX8_isWord_0 11 rfl rfl)
theorem dX8_isWord_12 : decode cX8_isWord 12 = .ok (.if_icmp .ne 100, 3) := dk_160 0 100 (dk_at dksX8_isWord_0 12 rfl rfl)
theorem dX8_isWord_15 : decode cX8_isWord 15 = .ok (.aload_n 0, 1) := dk_42 (dk_at dksX8_isWord_0 15 rfl rfl)
theorem dX8_isWord_16 : decode cX8_isWord 16 = .ok (.getfield 161, 3) := dk_180 0 161 (dk_at dksX8_isWord_0 16 rfl rfl)
theorem dX8_isWord_19 : decode cX8_isWord 19 = .ok (.aload_n 0, 1) := dk_42 (dk_at dksX8_isWord_0 19 rfl rfl)
theorem dX8_isWord_20 : decode cX8_isWord 20 = .ok (.getfield 167, 3) := dk_180 0 167 (dk_at dksX8_isWord_0 20 rfl rfl)
theorem dX8_isWord_23 : decode cX8_isWord 23 = .ok (.bipush 8, 2) := dk_16 8 (dk_at dksX8_isWord_1 0 rfl rfl)
theorem dX8_isWord_25 : decode cX8_isWord 25 = .ok (.iadd, 1) := dk_96 (dk_at dksX8_isWord_1 2 rfl rfl)
theorem dX8_isWord_26 : decode cX8_isWord 26 = .ok (.if_icmp .gt 86, 3) := dk_163 0 86 (dk_at dksX8_isWord_1 3 rfl rfl)
theorem dX8_isWord_29 : decode cX8_isWord 29 = .ok (.aload_n 0, 1) := dk_42 (dk_at dksX8_isWord_1 6 rfl rfl)
theorem dX8_isWord_30 : decode cX8_isWord 30 = .ok (.iconst 0, 1) := dk_3 (dk_at dksX8_isWord_1 7 rfl rfl)
theorem dX8_isWord_31 : decode cX8_isWord 31 = .ok (.iload_n 1, 1) := dk_27 (dk_at dksX8_isWord_1 8 rfl rfl)
theorem dX8_isWord_32 : decode cX8_isWord 32 = .ok (.invokevirtual 192, 3) := dk_182 0 192 (dk_at dksX8_isWord_1 9 rfl rfl)
theorem dX8_isWord_35 : decode cX8_isWord 35 = .ok (.ifCond .eq 77, 3) := dk_153 0 77 (dk_at dksX8_isWord_1 12 rfl rfl)
theorem dX8_isWord_38 : decode cX8_isWord 38 = .ok (.aload_n 0, 1) := dk_42 (dk_at dksX8_isWord_1 15 rfl rfl)
theorem dX8_isWord_39 : decode cX8_isWord 39 = .ok (.iconst 1, 1) := dk_4 (dk_at dksX8_isWord_1 16 rfl rfl)
theorem dX8_isWord_40 : decode cX8_isWord 40 = .ok (.iload_n 2, 1) := dk_28 (dk_at dksX8_isWord_1 17 rfl rfl)
theorem dX8_isWord_41 : decode cX8_isWord 41 = .ok (.invokevirtual 192, 3) := dk_182 0 192 (dk_at dksX8_isWord_1 18 rfl rfl)
theorem dX8_isWord_44 : decode cX8_isWord 44 = .ok (.ifCond .eq 68, 3) := dk_153 0 68 (dk_at dksX8_isWord_1 21 rfl rfl)
theorem dX8_isWord_47 : decode cX8_isWord 47 = .ok (.aload_n 0, 1) := dk_42 (dk_at dksX8_isWord_2 0 rfl rfl)
theorem dX8_isWord_48 : decode cX8_isWord 48 = .ok (.iconst 2, 1) := dk_5 (dk_at dksX8_isWord_2 1 rfl rfl)
theorem dX8_isWord_49 : decode cX8_isWord 49 = .ok (.iload_n 3, 1) := dk_29 (dk_at dksX8_isWord_2 2 rfl rfl)
theorem dX8_isWord_50 : decode cX8_isWord 50 = .ok (.invokevirtual 192, 3) := dk_182 0 192 (dk_at dksX8_isWord_2 3 rfl rfl)
theorem dX8_isWord_53 : decode cX8_isWord 53 = .ok (.ifCond .eq 59, 3) := dk_153 0 59 (dk_at dksX8_isWord_2 6 rfl rfl)
theorem dX8_isWord_56 : decode cX8_isWord 56 = .ok (.aload_n 0, 1) := dk_42 (dk_at dksX8_isWord_2 9 rfl rfl)
theorem dX8_isWord_57 : decode cX8_isWord 57 = .ok (.iconst 3, 1) := dk_6 (dk_at dksX8_isWord_2 10 rfl rfl)
theorem dX8_isWord_58 : decode cX8_isWord 58 = .ok (.iload 4, 2) := dk_21 4 (dk_at dksX8_isWord_2 11 rfl rfl)
theorem dX8_isWord_60 : decode cX8_isWord 60 = .ok (.invokevirtual 192, 3) := dk_182 0 192 (dk_at dksX8_isWord_2 13 rfl rfl)
theorem dX8_isWord_63 : decode cX8_isWord 63 = .ok (.ifCond .eq 49, 3) := dk_153 0 49 (dk_at dksX8_isWord_2 16 rfl rfl)
theorem dX8_isWord_66 : decode cX8_isWord 66 = .ok (.aload_n 0, 1) := dk_42 (dk_at dksX8_isWord_2 19 rfl rfl)
theorem dX8_isWord_67 : decode cX8_isWord 67 = .ok (.iconst 4, 1) := dk_7 (dk_at dksX8_isWord_2 20 rfl rfl)
theorem dX8_isWord_68 : decode cX8_isWord 68 = .ok (.iload 5, 2) := dk_21 5 (dk_at dksX8_isWord_2 21 rfl rfl)
theorem dX8_isWord_70 : decode cX8_isWord 70 = .ok (.invokevirtual 192, 3) := dk_182 0 192 (dk_at dksX8_isWord_3 0 rfl rfl)
theorem dX8_isWord_73 : decode cX8_isWord 73 = .ok (.ifCond .eq 39, 3) := dk_153 0 39 (dk_at dksX8_isWord_3 3 rfl rfl)
theorem dX8_isWord_76 : decode cX8_isWord 76 = .ok (.aload_n 0, 1) := dk_42 (dk_at dksX8_isWord_3 6 rfl rfl)
theorem dX8_isWord_77 : decode cX8_isWord 77 = .ok (.iconst 5, 1) := dk_8 (dk_at dksX8_isWord_3 7 rfl rfl)
theorem dX8_isWord_78 : decode cX8_isWord 78 = .ok (.iload 6, 2) := dk_21 6 (dk_at dksX8_isWord_3 8 rfl rfl)
theorem dX8_isWord_80 : decode cX8_isWord 80 = .ok (.invokevirtual 192, 3) := dk_182 0 192 (dk_at dksX8_isWord_3 10 rfl rfl)
theorem dX8_isWord_83 : decode cX8_isWord 83 = .ok (.ifCond .eq 29, 3) := dk_153 0 29 (dk_at dksX8_isWord_3 13 rfl rfl)
theorem dX8_isWord_86 : decode cX8_isWord 86 = .ok (.aload_n 0, 1) := dk_42 (dk_at dksX8_isWord_3 16 rfl rfl)
theorem dX8_isWord_87 : decode cX8_isWord 87 = .ok (.bipush 6, 2) := dk_16 6 (dk_at dksX8_isWord_3 17 rfl rfl)
theorem dX8_isWord_89 : decode cX8_isWord 89 = .ok (.iload 7, 2) := dk_21 7 (dk_at dksX8_isWord_3 19 rfl rfl)
theorem dX8_isWord_91 : decode cX8_isWord 91 = .ok (.invokevirtual 192, 3) := dk_182 0 192 (dk_at dksX8_isWord_3 21 rfl rfl)
theorem dX8_isWord_94 : decode cX8_isWord 94 = .ok (.ifCond .eq 18, 3) := dk_153 0 18 (dk_at dksX8_isWord_4 0 rfl rfl)
theorem dX8_isWord_97 : decode cX8_isWord 97 = .ok (.aload_n 0, 1) := dk_42 (dk_at dksX8_isWord_4 3 rfl rfl)
theorem dX8_isWord_98 : decode cX8_isWord 98 = .ok (.bipush 7, 2) := dk_16 7 (dk_at dksX8_isWord_4 4 rfl rfl)
theorem dX8_isWord_100 : decode cX8_isWord 100 = .ok (.iload 8, 2) := dk_21 8 (dk_at dksX8_isWord_4 6 rfl rfl)
theorem dX8_isWord_102 : decode cX8_isWord 102 = .ok (.invokevirtual 192, 3) := dk_182 0 192 (dk_at dksX8_isWord_4 8 rfl rfl)
theorem dX8_isWord_105 : decode cX8_isWord 105 = .ok (.ifCond .eq 7, 3) := dk_153 0 7 (dk_at dksX8_isWord_4 11 rfl rfl)
theorem dX8_isWord_108 : decode cX8_isWord 108 = .ok (.iconst 1, 1) := dk_4 (dk_at dksX8_isWord_4 14 rfl rfl)
theorem dX8_isWord_109 : decode cX8_isWord 109 = .ok (.goto 4, 3) := dk_167 0 4 (dk_at dksX8_isWord_4 15 rfl rfl)
theorem dX8_isWord_112 : decode cX8_isWord 112 = .ok (.iconst 0, 1) := dk_3 (dk_at dksX8_isWord_4 18 rfl rfl)
theorem dX8_isWord_113 : decode cX8_isWord 113 = .ok (.ireturn, 1) := dk_172 (dk_at dksX8_isWord_4 19 rfl rfl)
abbrev cX8_isLetter : ByteArray := prog_16_method_20_code
def yX8_isLetter : MethodName := ⟨RX8, "isLetter", "(II)Z"⟩
def dkwX8_isLetter_1 : List UInt8 := [160, 0, 7, 4, 167, 0, 16, 3, 167, 0, 12, 28, 154, 0, 7, 4, 167, 0, 4, 3, 172]
abbrev dktX8_isLetter_1 : List UInt8 := dkwX8_isLetter_1 ++ []
def dkwX8_isLetter_0 : List UInt8 := [42, 180, 0, 167, 27, 96, 42, 180, 0, 161, 162, 0, 25, 42, 42, 180, 0, 167, 27, 96, 182, 0, 164, 28]
abbrev dktX8_isLetter_0 : List UInt8 := dkwX8_isLetter_0 ++ dktX8_isLetter_1
theorem dksX8_isLetter_0 : cX8_isLetter.data.toList.drop 0 = dktX8_isLetter_0 := by decide +kernel
theorem dksX8_isLetter_1 : cX8_isLetter.data.toList.drop 24 = dktX8_isLetter_1 := dk_seg dksX8_isLetter_0 24 rfl rfl
theorem dX8_isLetter_0 : decode cX8_isLetter 0 = .ok (.aload_n 0, 1) := dk_42 (dk_at dksX8_isLetter_0 0 rfl rfl)
theorem dX8_isLetter_1 : decode cX8_isLetter 1 = .ok (.getfield 167, 3) := dk_180 0 167 (dk_at dksX8_isLetter_0 1 rfl rfl)
theorem dX8_isLetter_4 : decode cX8_isLetter 4 = .ok (.iload_n 1, 1) := dk_27 (dk_at dksX8_isLetter_0 4 rfl rfl)
theorem dX8_isLetter_5 : decode cX8_isLetter 5 = .ok (.iadd, 1) := dk_96 (dk_at dksX8_isLetter_0 5 rfl rfl)
theorem dX8_isLetter_6 : decode cX8_isLetter 6 = .ok (.aload_n 0, 1) := dk_42 (dk_at dksX8_isLetter_0 6 rfl rfl)
theorem dX8_isLetter_7 : decode cX8_isLetter 7 = .ok (.getfield 161, 3) := dk_180 0 161 (dk_at dksX8_isLetter_0 7 rfl rfl)
theorem dX8_isLetter_10 : decode cX8_isLetter 10 = .ok (.if_icmp .ge 25, 3) := dk_162 0 25 (dk_at dksX8_isLetter_0 10 rfl rfl)
theorem dX8_isLetter_13 : decode cX8_isLetter 13 = .ok (.aload_n 0, 1) := dk_42 (dk_at dksX8_isLetter_0 13 rfl rfl)
theorem dX8_isLetter_14 : decode cX8_isLetter 14 = .ok (.aload_n 0, 1) := dk_42 (dk_at dksX8_isLetter_0 14 rfl rfl)
theorem dX8_isLetter_15 : decode cX8_isLetter 15 = .ok (.getfield 167, 3) := dk_180 0 167 (dk_at dksX8_isLetter_0 15 rfl rfl)
theorem dX8_isLetter_18 : decode cX8_isLetter 18 = .ok (.iload_n 1, 1) := dk_27 (dk_at dksX8_isLetter_0 18 rfl rfl)
theorem dX8_isLetter_19 : decode cX8_isLetter 19 = .ok (.iadd, 1) := dk_96 (dk_at dksX8_isLetter_0 19 rfl rfl)
theorem dX8_isLetter_20 : decode cX8_isLetter 20 = .ok (.invokevirtual 164, 3) := dk_182 0 164 (dk_at dksX8_isLetter_0 20 rfl rfl)
theorem dX8_isLetter_23 : decode cX8_isLetter 23 = .ok (.iload_n 2, 1) := dk_28 (dk_at dksX8_isLetter_0 23 rfl rfl)
theorem dX8_isLetter_24 : decode cX8_isLetter 24 = .ok (.if_icmp .ne 7, 3) := dk_160 0 7 (dk_at dksX8_isLetter_1 0 rfl rfl)
theorem dX8_isLetter_27 : decode cX8_isLetter 27 = .ok (.iconst 1, 1) := dk_4 (dk_at dksX8_isLetter_1 3 rfl rfl)
theorem dX8_isLetter_28 : decode cX8_isLetter 28 = .ok (.goto 16, 3) := dk_167 0 16 (dk_at dksX8_isLetter_1 4 rfl rfl)
theorem dX8_isLetter_31 : decode cX8_isLetter 31 = .ok (.iconst 0, 1) := dk_3 (dk_at dksX8_isLetter_1 7 rfl rfl)
theorem dX8_isLetter_32 : decode cX8_isLetter 32 = .ok (.goto 12, 3) := dk_167 0 12 (dk_at dksX8_isLetter_1 8 rfl rfl)
theorem dX8_isLetter_35 : decode cX8_isLetter 35 = .ok (.iload_n 2, 1) := dk_28 (dk_at dksX8_isLetter_1 11 rfl rfl)
theorem dX8_isLetter_36 : decode cX8_isLetter 36 = .ok (.ifCond .ne 7, 3) := dk_154 0 7 (dk_at dksX8_isLetter_1 12 rfl rfl)
theorem dX8_isLetter_39 : decode cX8_isLetter 39 = .ok (.iconst 1, 1) := dk_4 (dk_at dksX8_isLetter_1 15 rfl rfl)
theorem dX8_isLetter_40 : decode cX8_isLetter 40 = .ok (.goto 4, 3) := dk_167 0 4 (dk_at dksX8_isLetter_1 16 rfl rfl)
theorem dX8_isLetter_43 : decode cX8_isLetter 43 = .ok (.iconst 0, 1) := dk_3 (dk_at dksX8_isLetter_1 19 rfl rfl)
theorem dX8_isLetter_44 : decode cX8_isLetter 44 = .ok (.ireturn, 1) := dk_172 (dk_at dksX8_isLetter_1 20 rfl rfl)
abbrev cX8_part : ByteArray := prog_16_method_31_code
def yX8_part : MethodName := ⟨RX8, "part", "(Z)I"⟩
def dkwX8_part_2 : List UInt8 := [182, 0, 199, 42, 180, 0, 185, 154, 0, 7, 42, 182, 0, 202, 28, 172]
abbrev dktX8_part_2 : List UInt8 := dkwX8_part_2 ++ []
def dkwX8_part_1 : List UInt8 := [153, 0, 7, 3, 167, 0, 7, 42, 182, 0, 238, 61, 42, 16, 59, 182, 0, 227, 154, 0, 7, 42]
abbrev dktX8_part_1 : List UInt8 := dkwX8_part_1 ++ dktX8_part_2
def dkwX8_part_0 : List UInt8 := [27, 154, 0, 7, 42, 182, 0, 199, 42, 180, 0, 185, 154, 0, 7, 42, 182, 0, 202, 42, 180, 0, 185]
abbrev dktX8_part_0 : List UInt8 := dkwX8_part_0 ++ dktX8_part_1
theorem dksX8_part_0 : cX8_part.data.toList.drop 0 = dktX8_part_0 := by decide +kernel
theorem dksX8_part_1 : cX8_part.data.toList.drop 23 = dktX8_part_1 := dk_seg dksX8_part_0 23 rfl rfl
theorem dksX8_part_2 : cX8_part.data.toList.drop 45 = dktX8_part_2 := dk_seg dksX8_part_1 22 rfl rfl
theorem dX8_part_0 : decode cX8_part 0 = .ok (.iload_n 1, 1) := dk_27 (dk_at dksX8_part_0 0 rfl rfl)
theorem dX8_part_1 : decode cX8_part 1 = .ok (.ifCond .ne 7, 3) := dk_154 0 7 (dk_at dksX8_part_0 1 rfl rfl)
theorem dX8_part_4 : decode cX8_part 4 = .ok (.aload_n 0, 1) := dk_42 (dk_at dksX8_part_0 4 rfl rfl)
theorem dX8_part_5 : decode cX8_part 5 = .ok (.invokevirtual 199, 3) := dk_182 0 199 (dk_at dksX8_part_0 5 rfl rfl)
theorem dX8_part_8 : decode cX8_part 8 = .ok (.aload_n 0, 1) := dk_42 (dk_at dksX8_part_0 8 rfl rfl)
theorem dX8_part_9 : decode cX8_part 9 = .ok (.getfield 185, 3) := dk_180 0 185 (dk_at dksX8_part_0 9 rfl rfl)
theorem dX8_part_12 : decode cX8_part 12 = .ok (.ifCond .ne 7, 3) := dk_154 0 7 (dk_at dksX8_part_0 12 rfl rfl)
theorem dX8_part_15 : decode cX8_part 15 = .ok (.aload_n 0, 1) := dk_42 (dk_at dksX8_part_0 15 rfl rfl)
theorem dX8_part_16 : decode cX8_part 16 = .ok (.invokevirtual 202, 3) := dk_182 0 202 (dk_at dksX8_part_0 16 rfl rfl)
theorem dX8_part_19 : decode cX8_part 19 = .ok (.aload_n 0, 1) := dk_42 (dk_at dksX8_part_0 19 rfl rfl)
theorem dX8_part_20 : decode cX8_part 20 = .ok (.getfield 185, 3) := dk_180 0 185 (dk_at dksX8_part_0 20 rfl rfl)
theorem dX8_part_23 : decode cX8_part 23 = .ok (.ifCond .eq 7, 3) := dk_153 0 7 (dk_at dksX8_part_1 0 rfl rfl)
theorem dX8_part_26 : decode cX8_part 26 = .ok (.iconst 0, 1) := dk_3 (dk_at dksX8_part_1 3 rfl rfl)
theorem dX8_part_27 : decode cX8_part 27 = .ok (.goto 7, 3) := dk_167 0 7 (dk_at dksX8_part_1 4 rfl rfl)
theorem dX8_part_30 : decode cX8_part 30 = .ok (.aload_n 0, 1) := dk_42 (dk_at dksX8_part_1 7 rfl rfl)
theorem dX8_part_31 : decode cX8_part 31 = .ok (.invokevirtual 238, 3) := dk_182 0 238 (dk_at dksX8_part_1 8 rfl rfl)
theorem dX8_part_34 : decode cX8_part 34 = .ok (.istore_n 2, 1) := dk_61 (dk_at dksX8_part_1 11 rfl rfl)
theorem dX8_part_35 : decode cX8_part 35 = .ok (.aload_n 0, 1) := dk_42 (dk_at dksX8_part_1 12 rfl rfl)
theorem dX8_part_36 : decode cX8_part 36 = .ok (.bipush 59, 2) := dk_16 59 (dk_at dksX8_part_1 13 rfl rfl)
theorem dX8_part_38 : decode cX8_part 38 = .ok (.invokevirtual 227, 3) := dk_182 0 227 (dk_at dksX8_part_1 15 rfl rfl)
theorem dX8_part_41 : decode cX8_part 41 = .ok (.ifCond .ne 7, 3) := dk_154 0 7 (dk_at dksX8_part_1 18 rfl rfl)
theorem dX8_part_44 : decode cX8_part 44 = .ok (.aload_n 0, 1) := dk_42 (dk_at dksX8_part_1 21 rfl rfl)
theorem dX8_part_45 : decode cX8_part 45 = .ok (.invokevirtual 199, 3) := dk_182 0 199 (dk_at dksX8_part_2 0 rfl rfl)
theorem dX8_part_48 : decode cX8_part 48 = .ok (.aload_n 0, 1) := dk_42 (dk_at dksX8_part_2 3 rfl rfl)
theorem dX8_part_49 : decode cX8_part 49 = .ok (.getfield 185, 3) := dk_180 0 185 (dk_at dksX8_part_2 4 rfl rfl)
theorem dX8_part_52 : decode cX8_part 52 = .ok (.ifCond .ne 7, 3) := dk_154 0 7 (dk_at dksX8_part_2 7 rfl rfl)
theorem dX8_part_55 : decode cX8_part 55 = .ok (.aload_n 0, 1) := dk_42 (dk_at dksX8_part_2 10 rfl rfl)
theorem dX8_part_56 : decode cX8_part 56 = .ok (.invokevirtual 202, 3) := dk_182 0 202 (dk_at dksX8_part_2 11 rfl rfl)
theorem dX8_part_59 : decode cX8_part 59 = .ok (.iload_n 2, 1) := dk_28 (dk_at dksX8_part_2 14 rfl rfl)
theorem dX8_part_60 : decode cX8_part 60 = .ok (.ireturn, 1) := dk_172 (dk_at dksX8_part_2 15 rfl rfl)
abbrev cX8_fail : ByteArray := prog_16_method_19_code
def yX8_fail : MethodName := ⟨RX8, "fail", "()V"⟩
def dkwX8_fail_0 : List UInt8 := [42, 180, 0, 185, 154, 0, 16, 42, 4, 181, 0, 185, 42, 42, 180, 0, 167, 181, 0, 189, 177]
abbrev dktX8_fail_0 : List UInt8 := dkwX8_fail_0 ++ []
theorem dksX8_fail_0 : cX8_fail.data.toList.drop 0 = dktX8_fail_0 := by decide +kernel
theorem dX8_fail_0 : decode cX8_fail 0 = .ok (.aload_n 0, 1) := dk_42 (dk_at dksX8_fail_0 0 rfl rfl)
theorem dX8_fail_1 : decode cX8_fail 1 = .ok (.getfield 185, 3) := dk_180 0 185 (dk_at dksX8_fail_0 1 rfl rfl)
theorem dX8_fail_4 : decode cX8_fail 4 = .ok (.ifCond .ne 16, 3) := dk_154 0 16 (dk_at dksX8_fail_0 4 rfl rfl)
theorem dX8_fail_7 : decode cX8_fail 7 = .ok (.aload_n 0, 1) := dk_42 (dk_at dksX8_fail_0 7 rfl rfl)
theorem dX8_fail_8 : decode cX8_fail 8 = .ok (.iconst 1, 1) := dk_4 (dk_at dksX8_fail_0 8 rfl rfl)
theorem dX8_fail_9 : decode cX8_fail 9 = .ok (.putfield 185, 3) := dk_181 0 185 (dk_at dksX8_fail_0 9 rfl rfl)
theorem dX8_fail_12 : decode cX8_fail 12 = .ok (.aload_n 0, 1) := dk_42 (dk_at dksX8_fail_0 12 rfl rfl)
theorem dX8_fail_13 : decode cX8_fail 13 = .ok (.aload_n 0, 1) := dk_42 (dk_at dksX8_fail_0 13 rfl rfl)
theorem dX8_fail_14 : decode cX8_fail 14 = .ok (.getfield 167, 3) := dk_180 0 167 (dk_at dksX8_fail_0 14 rfl rfl)
theorem dX8_fail_17 : decode cX8_fail 17 = .ok (.putfield 189, 3) := dk_181 0 189 (dk_at dksX8_fail_0 17 rfl rfl)
theorem dX8_fail_20 : decode cX8_fail 20 = .ok (.return_, 1) := dk_177 (dk_at dksX8_fail_0 20 rfl rfl)
abbrev cX8_either : ByteArray := prog_16_method_30_code
def yX8_either : MethodName := ⟨RX8, "either", "()I"⟩
def dkwX8_either_2 : List UInt8 := [167, 255, 216, 27, 172]
abbrev dktX8_either_2 : List UInt8 := dkwX8_either_2 ++ []
def dkwX8_either_1 : List UInt8 := [182, 0, 202, 42, 182, 1, 1, 61, 27, 154, 0, 7, 28, 153, 0, 7, 4, 167, 0, 4, 3, 60]
abbrev dktX8_either_1 : List UInt8 := dkwX8_either_1 ++ dktX8_either_2
def dkwX8_either_0 : List UInt8 := [42, 182, 1, 1, 60, 42, 16, 111, 16, 114, 3, 3, 3, 3, 3, 3, 182, 0, 205, 153, 0, 29, 42]
abbrev dktX8_either_0 : List UInt8 := dkwX8_either_0 ++ dktX8_either_1
theorem dksX8_either_0 : cX8_either.data.toList.drop 0 = dktX8_either_0 := by decide +kernel
theorem dksX8_either_1 : cX8_either.data.toList.drop 23 = dktX8_either_1 := dk_seg dksX8_either_0 23 rfl rfl
theorem dksX8_either_2 : cX8_either.data.toList.drop 45 = dktX8_either_2 := dk_seg dksX8_either_1 22 rfl rfl
theorem dX8_either_0 : decode cX8_either 0 = .ok (.aload_n 0, 1) := dk_42 (dk_at dksX8_either_0 0 rfl rfl)
theorem dX8_either_1 : decode cX8_either 1 = .ok (.invokevirtual 257, 3) := dk_182 1 1 (dk_at dksX8_either_0 1 rfl rfl)
theorem dX8_either_4 : decode cX8_either 4 = .ok (.istore_n 1, 1) := dk_60 (dk_at dksX8_either_0 4 rfl rfl)
theorem dX8_either_5 : decode cX8_either 5 = .ok (.aload_n 0, 1) := dk_42 (dk_at dksX8_either_0 5 rfl rfl)
theorem dX8_either_6 : decode cX8_either 6 = .ok (.bipush 111, 2) := dk_16 111 (dk_at dksX8_either_0 6 rfl rfl)
theorem dX8_either_8 : decode cX8_either 8 = .ok (.bipush 114, 2) := dk_16 114 (dk_at dksX8_either_0 8 rfl rfl)
theorem dX8_either_10 : decode cX8_either 10 = .ok (.iconst 0, 1) := dk_3 (dk_at dksX8_either_0 10 rfl rfl)
theorem dX8_either_11 : decode cX8_either 11 = .ok (.iconst 0, 1) := dk_3 (dk_at dksX8_either_0 11 rfl rfl)
theorem dX8_either_12 : decode cX8_either 12 = .ok (.iconst 0, 1) := dk_3 (dk_at dksX8_either_0 12 rfl rfl)
theorem dX8_either_13 : decode cX8_either 13 = .ok (.iconst 0, 1) := dk_3 (dk_at dksX8_either_0 13 rfl rfl)
theorem dX8_either_14 : decode cX8_either 14 = .ok (.iconst 0, 1) := dk_3 (dk_at dksX8_either_0 14 rfl rfl)
theorem dX8_either_15 : decode cX8_either 15 = .ok (.iconst 0, 1) := dk_3 (dk_at dksX8_either_0 15 rfl rfl)
theorem dX8_either_16 : decode cX8_either 16 = .ok (.invokevirtual 205, 3) := dk_182 0 205 (dk_at dksX8_either_0 16 rfl rfl)
theorem dX8_either_19 : decode cX8_either 19 = .ok (.ifCond .eq 29, 3) := dk_153 0 29 (dk_at dksX8_either_0 19 rfl rfl)
theorem dX8_either_22 : decode cX8_either 22 = .ok (.aload_n 0, 1) := dk_42 (dk_at dksX8_either_0 22 rfl rfl)
theorem dX8_either_23 : decode cX8_either 23 = .ok (.invokevirtual 202, 3) := dk_182 0 202 (dk_at dksX8_either_1 0 rfl rfl)
theorem dX8_either_26 : decode cX8_either 26 = .ok (.aload_n 0, 1) := dk_42 (dk_at dksX8_either_1 3 rfl rfl)
theorem dX8_either_27 : decode cX8_either 27 = .ok (.invokevirtual 257, 3) := dk_182 1 1 (dk_at dksX8_either_1 4 rfl rfl)
theorem dX8_either_30 : decode cX8_either 30 = .ok (.istore_n 2, 1) := dk_61 (dk_at dksX8_either_1 7 rfl rfl)
theorem dX8_either_31 : decode cX8_either 31 = .ok (.iload_n 1, 1) := dk_27 (dk_at dksX8_either_1 8 rfl rfl)
theorem dX8_either_32 : decode cX8_either 32 = .ok (.ifCond .ne 7, 3) := dk_154 0 7 (dk_at dksX8_either_1 9 rfl rfl)
theorem dX8_either_35 : decode cX8_either 35 = .ok (.iload_n 2, 1) := dk_28 (dk_at dksX8_either_1 12 rfl rfl)
theorem dX8_either_36 : decode cX8_either 36 = .ok (.ifCond .eq 7, 3) := dk_153 0 7 (dk_at dksX8_either_1 13 rfl rfl)
theorem dX8_either_39 : decode cX8_either 39 = .ok (.iconst 1, 1) := dk_4 (dk_at dksX8_either_1 16 rfl rfl)
theorem dX8_either_40 : decode cX8_either 40 = .ok (.goto 4, 3) := dk_167 0 4 (dk_at dksX8_either_1 17 rfl rfl)
theorem dX8_either_43 : decode cX8_either 43 = .ok (.iconst 0, 1) := dk_3 (dk_at dksX8_either_1 20 rfl rfl)
theorem dX8_either_44 : decode cX8_either 44 = .ok (.istore_n 1, 1) := dk_60 (dk_at dksX8_either_1 21 rfl rfl)
theorem dX8_either_45 : decode cX8_either 45 = .ok (.goto (-40), 3) := dk_167 255 216 (dk_at dksX8_either_2 0 rfl rfl)
theorem dX8_either_48 : decode cX8_either 48 = .ok (.iload_n 1, 1) := dk_27 (dk_at dksX8_either_2 3 rfl rfl)
theorem dX8_either_49 : decode cX8_either 49 = .ok (.ireturn, 1) := dk_172 (dk_at dksX8_either_2 4 rfl rfl)
abbrev cX8_both : ByteArray := prog_16_method_29_code
def yX8_both : MethodName := ⟨RX8, "both", "()I"⟩
def dkwX8_both_2 : List UInt8 := [167, 255, 215, 27, 172]
abbrev dktX8_both_2 : List UInt8 := dkwX8_both_2 ++ []
def dkwX8_both_1 : List UInt8 := [182, 0, 202, 42, 182, 0, 249, 61, 27, 153, 0, 11, 28, 153, 0, 7, 4, 167, 0, 4, 3, 60]
abbrev dktX8_both_1 : List UInt8 := dkwX8_both_1 ++ dktX8_both_2
def dkwX8_both_0 : List UInt8 := [42, 182, 0, 249, 60, 42, 16, 97, 16, 110, 16, 100, 3, 3, 3, 3, 3, 182, 0, 205, 153, 0, 29, 42]
abbrev dktX8_both_0 : List UInt8 := dkwX8_both_0 ++ dktX8_both_1
theorem dksX8_both_0 : cX8_both.data.toList.drop 0 = dktX8_both_0 := by decide +kernel
theorem dksX8_both_1 : cX8_both.data.toList.drop 24 = dktX8_both_1 := dk_seg dksX8_both_0 24 rfl rfl
theorem dksX8_both_2 : cX8_both.data.toList.drop 46 = dktX8_both_2 := dk_seg dksX8_both_1 22 rfl rfl
theorem dX8_both_0 : decode cX8_both 0 = .ok (.aload_n 0, 1) := dk_42 (dk_at dksX8_both_0 0 rfl rfl)
theorem dX8_both_1 : decode cX8_both 1 = .ok (.invokevirtual 249, 3) := dk_182 0 249 (dk_at dksX8_both_0 1 rfl rfl)
theorem dX8_both_4 : decode cX8_both 4 = .ok (.istore_n 1, 1) := dk_60 (dk_at dksX8_both_0 4 rfl rfl)
theorem dX8_both_5 : decode cX8_both 5 = .ok (.aload_n 0, 1) := dk_42 (dk_at dksX8_both_0 5 rfl rfl)
theorem dX8_both_6 : decode cX8_both 6 = .ok (.bipush 97, 2) := dk_16 97 (dk_at dksX8_both_0 6 rfl rfl)
theorem dX8_both_8 : decode cX8_both 8 = .ok (.bipush 110, 2) := dk_16 110 (dk_at dksX8_both_0 8 rfl rfl)
theorem dX8_both_10 : decode cX8_both 10 = .ok (.bipush 100, 2) := dk_16 100 (dk_at dksX8_both_0 10 rfl rfl)
theorem dX8_both_12 : decode cX8_both 12 = .ok (.iconst 0, 1) := dk_3 (dk_at dksX8_both_0 12 rfl rfl)
theorem dX8_both_13 : decode cX8_both 13 = .ok (.iconst 0, 1) := dk_3 (dk_at dksX8_both_0 13 rfl rfl)
theorem dX8_both_14 : decode cX8_both 14 = .ok (.iconst 0, 1) := dk_3 (dk_at dksX8_both_0 14 rfl rfl)
theorem dX8_both_15 : decode cX8_both 15 = .ok (.iconst 0, 1) := dk_3 (dk_at dksX8_both_0 15 rfl rfl)
theorem dX8_both_16 : decode cX8_both 16 = .ok (.iconst 0, 1) := dk_3 (dk_at dksX8_both_0 16 rfl rfl)
theorem dX8_both_17 : decode cX8_both 17 = .ok (.invokevirtual 205, 3) := dk_182 0 205 (dk_at dksX8_both_0 17 rfl rfl)
theorem dX8_both_20 : decode cX8_both 20 = .ok (.ifCond .eq 29, 3) := dk_153 0 29 (dk_at dksX8_both_0 20 rfl rfl)
theorem dX8_both_23 : decode cX8_both 23 = .ok (.aload_n 0, 1) := dk_42 (dk_at dksX8_both_0 23 rfl rfl)
theorem dX8_both_24 : decode cX8_both 24 = .ok (.invokevirtual 202, 3) := dk_182 0 202 (dk_at dksX8_both_1 0 rfl rfl)
theorem dX8_both_27 : decode cX8_both 27 = .ok (.aload_n 0, 1) := dk_42 (dk_at dksX8_both_1 3 rfl rfl)
theorem dX8_both_28 : decode cX8_both 28 = .ok (.invokevirtual 249, 3) := dk_182 0 249 (dk_at dksX8_both_1 4 rfl rfl)
theorem dX8_both_31 : decode cX8_both 31 = .ok (.istore_n 2, 1) := dk_61 (dk_at dksX8_both_1 7 rfl rfl)
theorem dX8_both_32 : decode cX8_both 32 = .ok (.iload_n 1, 1) := dk_27 (dk_at dksX8_both_1 8 rfl rfl)
theorem dX8_both_33 : decode cX8_both 33 = .ok (.ifCond .eq 11, 3) := dk_153 0 11 (dk_at dksX8_both_1 9 rfl rfl)
theorem dX8_both_36 : decode cX8_both 36 = .ok (.iload_n 2, 1) := dk_28 (dk_at dksX8_both_1 12 rfl rfl)
theorem dX8_both_37 : decode cX8_both 37 = .ok (.ifCond .eq 7, 3) := dk_153 0 7 (dk_at dksX8_both_1 13 rfl rfl)
theorem dX8_both_40 : decode cX8_both 40 = .ok (.iconst 1, 1) := dk_4 (dk_at dksX8_both_1 16 rfl rfl)
theorem dX8_both_41 : decode cX8_both 41 = .ok (.goto 4, 3) := dk_167 0 4 (dk_at dksX8_both_1 17 rfl rfl)
theorem dX8_both_44 : decode cX8_both 44 = .ok (.iconst 0, 1) := dk_3 (dk_at dksX8_both_1 20 rfl rfl)
theorem dX8_both_45 : decode cX8_both 45 = .ok (.istore_n 1, 1) := dk_60 (dk_at dksX8_both_1 21 rfl rfl)
theorem dX8_both_46 : decode cX8_both 46 = .ok (.goto (-41), 3) := dk_167 255 215 (dk_at dksX8_both_2 0 rfl rfl)
theorem dX8_both_49 : decode cX8_both 49 = .ok (.iload_n 1, 1) := dk_27 (dk_at dksX8_both_2 3 rfl rfl)
theorem dX8_both_50 : decode cX8_both 50 = .ok (.ireturn, 1) := dk_172 (dk_at dksX8_both_2 4 rfl rfl)
abbrev cX8_not : ByteArray := prog_16_method_28_code
def yX8_not : MethodName := ⟨RX8, "not", "()I"⟩
def dkwX8_not_5 : List UInt8 := [160, 0, 7, 4, 167, 0, 4, 3, 172]
abbrev dktX8_not_5 : List UInt8 := dkwX8_not_5 ++ []
def dkwX8_not_4 : List UInt8 := [61, 42, 182, 0, 202, 42, 182, 0, 252, 62, 28, 153, 0, 11, 27, 29, 162, 0, 15, 167, 0, 8, 27, 29]
abbrev dktX8_not_4 : List UInt8 := dkwX8_not_4 ++ dktX8_not_5
def dkwX8_not_3 : List UInt8 := [182, 0, 227, 154, 0, 5, 27, 172, 42, 180, 0, 181, 20, 0, 255, 148, 154, 0, 7, 4, 167, 0, 4, 3]
abbrev dktX8_not_3 : List UInt8 := dkwX8_not_3 ++ dktX8_not_4
def dkwX8_not_2 : List UInt8 := [4, 167, 0, 4, 3, 172, 42, 182, 0, 252, 60, 42, 16, 60, 182, 0, 227, 154, 0, 14, 42, 16, 61]
abbrev dktX8_not_2 : List UInt8 := dkwX8_not_2 ++ dktX8_not_3
def dkwX8_not_1 : List UInt8 := [154, 0, 5, 3, 172, 42, 182, 0, 249, 60, 42, 89, 180, 0, 196, 4, 100, 181, 0, 196, 27, 154, 0, 7]
abbrev dktX8_not_1 : List UInt8 := dkwX8_not_1 ++ dktX8_not_2
def dkwX8_not_0 : List UInt8 := [42, 16, 110, 16, 111, 16, 116, 3, 3, 3, 3, 3, 182, 0, 205, 153, 0, 37, 42, 182, 0, 230]
abbrev dktX8_not_0 : List UInt8 := dkwX8_not_0 ++ dktX8_not_1
theorem dksX8_not_0 : cX8_not.data.toList.drop 0 = dktX8_not_0 := by decide +kernel
theorem dksX8_not_1 : cX8_not.data.toList.drop 22 = dktX8_not_1 := dk_seg dksX8_not_0 22 rfl rfl
theorem dksX8_not_2 : cX8_not.data.toList.drop 46 = dktX8_not_2 := dk_seg dksX8_not_1 24 rfl rfl
theorem dksX8_not_3 : cX8_not.data.toList.drop 69 = dktX8_not_3 := dk_seg dksX8_not_2 23 rfl rfl
theorem dksX8_not_4 : cX8_not.data.toList.drop 93 = dktX8_not_4 := dk_seg dksX8_not_3 24 rfl rfl
theorem dksX8_not_5 : cX8_not.data.toList.drop 117 = dktX8_not_5 := dk_seg dksX8_not_4 24 rfl rfl
theorem dX8_not_0 : decode cX8_not 0 = .ok (.aload_n 0, 1) := dk_42 (dk_at dksX8_not_0 0 rfl rfl)
theorem dX8_not_1 : decode cX8_not 1 = .ok (.bipush 110, 2) := dk_16 110 (dk_at dksX8_not_0 1 rfl rfl)
theorem dX8_not_3 : decode cX8_not 3 = .ok (.bipush 111, 2) := dk_16 111 (dk_at dksX8_not_0 3 rfl rfl)
theorem dX8_not_5 : decode cX8_not 5 = .ok (.bipush 116, 2) := dk_16 116 (dk_at dksX8_not_0 5 rfl rfl)
theorem dX8_not_7 : decode cX8_not 7 = .ok (.iconst 0, 1) := dk_3 (dk_at dksX8_not_0 7 rfl rfl)
theorem dX8_not_8 : decode cX8_not 8 = .ok (.iconst 0, 1) := dk_3 (dk_at dksX8_not_0 8 rfl rfl)
theorem dX8_not_9 : decode cX8_not 9 = .ok (.iconst 0, 1) := dk_3 (dk_at dksX8_not_0 9 rfl rfl)
theorem dX8_not_10 : decode cX8_not 10 = .ok (.iconst 0, 1) := dk_3 (dk_at dksX8_not_0 10 rfl rfl)
theorem dX8_not_11 : decode cX8_not 11 = .ok (.iconst 0, 1) := dk_3 (dk_at dksX8_not_0 11 rfl rfl)
theorem dX8_not_12 : decode cX8_not 12 = .ok (.invokevirtual 205, 3) := dk_182 0 205 (dk_at dksX8_not_0 12 rfl rfl)
theorem dX8_not_15 : decode cX8_not 15 = .ok (.ifCond .eq 37, 3) := dk_153 0 37 (dk_at dksX8_not_0 15 rfl rfl)
theorem dX8_not_18 : decode cX8_not 18 = .ok (.aload_n 0, 1) := dk_42 (dk_at dksX8_not_0 18 rfl rfl)
theorem dX8_not_19 : decode cX8_not 19 = .ok (.invokevirtual 230, 3) := dk_182 0 230 (dk_at dksX8_not_0 19 rfl rfl)
theorem dX8_not_22 : decode cX8_not 22 = .ok (.ifCond .ne 5, 3) := dk_154 0 5 (dk_at dksX8_not_1 0 rfl rfl)
theorem dX8_not_25 : decode cX8_not 25 = .ok (.iconst 0, 1) := dk_3 (dk_at dksX8_not_1 3 rfl rfl)
theorem dX8_not_26 : decode cX8_not 26 = .ok (.ireturn, 1) := dk_172 (dk_at dksX8_not_1 4 rfl rfl)
theorem dX8_not_27 : decode cX8_not 27 = .ok (.aload_n 0, 1) := dk_42 (dk_at dksX8_not_1 5 rfl rfl)
theorem dX8_not_28 : decode cX8_not 28 = .ok (.invokevirtual 249, 3) := dk_182 0 249 (dk_at dksX8_not_1 6 rfl rfl)
theorem dX8_not_31 : decode cX8_not 31 = .ok (.istore_n 1, 1) := dk_60 (dk_at dksX8_not_1 9 rfl rfl)
theorem dX8_not_32 : decode cX8_not 32 = .ok (.aload_n 0, 1) := dk_42 (dk_at dksX8_not_1 10 rfl rfl)
theorem dX8_not_33 : decode cX8_not 33 = .ok (.dup, 1) := dk_89 (dk_at dksX8_not_1 11 rfl rfl)
theorem dX8_not_34 : decode cX8_not 34 = .ok (.getfield 196, 3) := dk_180 0 196 (dk_at dksX8_not_1 12 rfl rfl)
theorem dX8_not_37 : decode cX8_not 37 = .ok (.iconst 1, 1) := dk_4 (dk_at dksX8_not_1 15 rfl rfl)
theorem dX8_not_38 : decode cX8_not 38 = .ok (.isub, 1) := dk_100 (dk_at dksX8_not_1 16 rfl rfl)
theorem dX8_not_39 : decode cX8_not 39 = .ok (.putfield 196, 3) := dk_181 0 196 (dk_at dksX8_not_1 17 rfl rfl)
theorem dX8_not_42 : decode cX8_not 42 = .ok (.iload_n 1, 1) := dk_27 (dk_at dksX8_not_1 20 rfl rfl)
theorem dX8_not_43 : decode cX8_not 43 = .ok (.ifCond .ne 7, 3) := dk_154 0 7 (dk_at dksX8_not_1 21 rfl rfl)
theorem dX8_not_46 : decode cX8_not 46 = .ok (.iconst 1, 1) := dk_4 (dk_at dksX8_not_2 0 rfl rfl)
theorem dX8_not_47 : decode cX8_not 47 = .ok (.goto 4, 3) := dk_167 0 4 (dk_at dksX8_not_2 1 rfl rfl)
theorem dX8_not_50 : decode cX8_not 50 = .ok (.iconst 0, 1) := dk_3 (dk_at dksX8_not_2 4 rfl rfl)
theorem dX8_not_51 : decode cX8_not 51 = .ok (.ireturn, 1) := dk_172 (dk_at dksX8_not_2 5 rfl rfl)
theorem dX8_not_52 : decode cX8_not 52 = .ok (.aload_n 0, 1) := dk_42 (dk_at dksX8_not_2 6 rfl rfl)
theorem dX8_not_53 : decode cX8_not 53 = .ok (.invokevirtual 252, 3) := dk_182 0 252 (dk_at dksX8_not_2 7 rfl rfl)
theorem dX8_not_56 : decode cX8_not 56 = .ok (.istore_n 1, 1) := dk_60 (dk_at dksX8_not_2 10 rfl rfl)
theorem dX8_not_57 : decode cX8_not 57 = .ok (.aload_n 0, 1) := dk_42 (dk_at dksX8_not_2 11 rfl rfl)
theorem dX8_not_58 : decode cX8_not 58 = .ok (.bipush 60, 2) := dk_16 60 (dk_at dksX8_not_2 12 rfl rfl)
theorem dX8_not_60 : decode cX8_not 60 = .ok (.invokevirtual 227, 3) := dk_182 0 227 (dk_at dksX8_not_2 14 rfl rfl)
theorem dX8_not_63 : decode cX8_not 63 = .ok (.ifCond .ne 14, 3) := dk_154 0 14 (dk_at dksX8_not_2 17 rfl rfl)
theorem dX8_not_66 : decode cX8_not 66 = .ok (.aload_n 0, 1) := dk_42 (dk_at dksX8_not_2 20 rfl rfl)
theorem dX8_not_67 : decode cX8_not 67 = .ok (.bipush 61, 2) := dk_16 61 (dk_at dksX8_not_2 21 rfl rfl)
theorem dX8_not_69 : decode cX8_not 69 = .ok (.invokevirtual 227, 3) := dk_182 0 227 (dk_at dksX8_not_3 0 rfl rfl)
theorem dX8_not_72 : decode cX8_not 72 = .ok (.ifCond .ne 5, 3) := dk_154 0 5 (dk_at dksX8_not_3 3 rfl rfl)
theorem dX8_not_75 : decode cX8_not 75 = .ok (.iload_n 1, 1) := dk_27 (dk_at dksX8_not_3 6 rfl rfl)
theorem dX8_not_76 : decode cX8_not 76 = .ok (.ireturn, 1) := dk_172 (dk_at dksX8_not_3 7 rfl rfl)
theorem dX8_not_77 : decode cX8_not 77 = .ok (.aload_n 0, 1) := dk_42 (dk_at dksX8_not_3 8 rfl rfl)
theorem dX8_not_78 : decode cX8_not 78 = .ok (.getfield 181, 3) := dk_180 0 181 (dk_at dksX8_not_3 9 rfl rfl)
theorem dX8_not_81 : decode cX8_not 81 = .ok (.ldc2_w 255, 3) := dk_20 0 255 (dk_at dksX8_not_3 12 rfl rfl)
theorem dX8_not_84 : decode cX8_not 84 = .ok (.lcmp, 1) := dk_148 (dk_at dksX8_not_3 15 rfl rfl)
theorem dX8_not_85 : decode cX8_not 85 = .ok (.ifCond .ne 7, 3) := dk_154 0 7 (dk_at dksX8_not_3 16 rfl rfl)
theorem dX8_not_88 : decode cX8_not 88 = .ok (.iconst 1, 1) := dk_4 (dk_at dksX8_not_3 19 rfl rfl)
theorem dX8_not_89 : decode cX8_not 89 = .ok (.goto 4, 3) := dk_167 0 4 (dk_at dksX8_not_3 20 rfl rfl)
theorem dX8_not_92 : decode cX8_not 92 = .ok (.iconst 0, 1) := dk_3 (dk_at dksX8_not_3 23 rfl rfl)
theorem dX8_not_93 : decode cX8_not 93 = .ok (.istore_n 2, 1) := dk_61 (dk_at dksX8_not_4 0 rfl rfl)
theorem dX8_not_94 : decode cX8_not 94 = .ok (.aload_n 0, 1) := dk_42 (dk_at dksX8_not_4 1 rfl rfl)
theorem dX8_not_95 : decode cX8_not 95 = .ok (.invokevirtual 202, 3) := dk_182 0 202 (dk_at dksX8_not_4 2 rfl rfl)
theorem dX8_not_98 : decode cX8_not 98 = .ok (.aload_n 0, 1) := dk_42 (dk_at dksX8_not_4 5 rfl rfl)
theorem dX8_not_99 : decode cX8_not 99 = .ok (.invokevirtual 252, 3) := dk_182 0 252 (dk_at dksX8_not_4 6 rfl rfl)
theorem dX8_not_102 : decode cX8_not 102 = .ok (.istore_n 3, 1) := dk_62 (dk_at dksX8_not_4 9 rfl rfl)
theorem dX8_not_103 : decode cX8_not 103 = .ok (.iload_n 2, 1) := dk_28 (dk_at dksX8_not_4 10 rfl rfl)
theorem dX8_not_104 : decode cX8_not 104 = .ok (.ifCond .eq 11, 3) := dk_153 0 11 (dk_at dksX8_not_4 11 rfl rfl)
theorem dX8_not_107 : decode cX8_not 107 = .ok (.iload_n 1, 1) := dk_27 (dk_at dksX8_not_4 14 rfl rfl)
theorem dX8_not_108 : decode cX8_not 108 = .ok (.iload_n 3, 1) := dk_29 (dk_at dksX8_not_4 15 rfl rfl)
theorem dX8_not_109 : decode cX8_not 109 = .ok (.if_icmp .ge 15, 3) := dk_162 0 15 (dk_at dksX8_not_4 16 rfl rfl)
theorem dX8_not_112 : decode cX8_not 112 = .ok (.goto 8, 3) := dk_167 0 8 (dk_at dksX8_not_4 19 rfl rfl)
theorem dX8_not_115 : decode cX8_not 115 = .ok (.iload_n 1, 1) := dk_27 (dk_at dksX8_not_4 22 rfl rfl)
theorem dX8_not_116 : decode cX8_not 116 = .ok (.iload_n 3, 1) := dk_29 (dk_at dksX8_not_4 23 rfl rfl)
theorem dX8_not_117 : decode cX8_not 117 = .ok (.if_icmp .ne 7, 3) := dk_160 0 7 (dk_at dksX8_not_5 0 rfl rfl)
theorem dX8_not_120 : decode cX8_not 120 = .ok (.iconst 1, 1) := dk_4 (dk_at dksX8_not_5 3 rfl rfl)
theorem dX8_not_121 : decode cX8_not 121 = .ok (.goto 4, 3) := dk_167 0 4 (dk_at dksX8_not_5 4 rfl rfl)
theorem dX8_not_124 : decode cX8_not 124 = .ok (.iconst 0, 1) := dk_3 (dk_at dksX8_not_5 7 rfl rfl)
theorem dX8_not_125 : decode cX8_not 125 = .ok (.ireturn, 1) := dk_172 (dk_at dksX8_not_5 8 rfl rfl)
abbrev cX8_opens : ByteArray := prog_16_method_23_code
def yX8_opens : MethodName := ⟨RX8, "opens", "()Z"⟩
def dkwX8_opens_1 : List UInt8 := [42, 182, 0, 202, 4, 172]
abbrev dktX8_opens_1 : List UInt8 := dkwX8_opens_1 ++ []
def dkwX8_opens_0 : List UInt8 := [42, 180, 0, 196, 8, 160, 0, 9, 42, 182, 0, 199, 3, 172, 42, 89, 180, 0, 196, 4, 96, 181, 0, 196]
abbrev dktX8_opens_0 : List UInt8 := dkwX8_opens_0 ++ dktX8_opens_1
theorem dksX8_opens_0 : cX8_opens.data.toList.drop 0 = dktX8_opens_0 := by decide +kernel
theorem dksX8_opens_1 : cX8_opens.data.toList.drop 24 = dktX8_opens_1 := dk_seg dksX8_opens_0 24 rfl rfl
theorem dX8_opens_0 : decode cX8_opens 0 = .ok (.aload_n 0, 1) := dk_42 (dk_at dksX8_opens_0 0 rfl rfl)
theorem dX8_opens_1 : decode cX8_opens 1 = .ok (.getfield 196, 3) := dk_180 0 196 (dk_at dksX8_opens_0 1 rfl rfl)
theorem dX8_opens_4 : decode cX8_opens 4 = .ok (.iconst 5, 1) := dk_8 (dk_at dksX8_opens_0 4 rfl rfl)
theorem dX8_opens_5 : decode cX8_opens 5 = .ok (.if_icmp .ne 9, 3) := dk_160 0 9 (dk_at dksX8_opens_0 5 rfl rfl)
theorem dX8_opens_8 : decode cX8_opens 8 = .ok (.aload_n 0, 1) := dk_42 (dk_at dksX8_opens_0 8 rfl rfl)
theorem dX8_opens_9 : decode cX8_opens 9 = .ok (.invokevirtual 199, 3) := dk_182 0 199 (dk_at dksX8_opens_0 9 rfl rfl)
theorem dX8_opens_12 : decode cX8_opens 12 = .ok (.iconst 0, 1) := dk_3 (dk_at dksX8_opens_0 12 rfl rfl)
theorem dX8_opens_13 : decode cX8_opens 13 = .ok (.ireturn, 1) := dk_172 (dk_at dksX8_opens_0 13 rfl rfl)
theorem dX8_opens_14 : decode cX8_opens 14 = .ok (.aload_n 0, 1) := dk_42 (dk_at dksX8_opens_0 14 rfl rfl)
theorem dX8_opens_15 : decode cX8_opens 15 = .ok (.dup, 1) := dk_89 (dk_at dksX8_opens_0 15 rfl rfl)
theorem dX8_opens_16 : decode cX8_opens 16 = .ok (.getfield 196, 3) := dk_180 0 196 (dk_at dksX8_opens_0 16 rfl rfl)
theorem dX8_opens_19 : decode cX8_opens 19 = .ok (.iconst 1, 1) := dk_4 (dk_at dksX8_opens_0 19 rfl rfl)
theorem dX8_opens_20 : decode cX8_opens 20 = .ok (.iadd, 1) := dk_96 (dk_at dksX8_opens_0 20 rfl rfl)
theorem dX8_opens_21 : decode cX8_opens 21 = .ok (.putfield 196, 3) := dk_181 0 196 (dk_at dksX8_opens_0 21 rfl rfl)
theorem dX8_opens_24 : decode cX8_opens 24 = .ok (.aload_n 0, 1) := dk_42 (dk_at dksX8_opens_1 0 rfl rfl)
theorem dX8_opens_25 : decode cX8_opens 25 = .ok (.invokevirtual 202, 3) := dk_182 0 202 (dk_at dksX8_opens_1 1 rfl rfl)
theorem dX8_opens_28 : decode cX8_opens 28 = .ok (.iconst 1, 1) := dk_4 (dk_at dksX8_opens_1 4 rfl rfl)
theorem dX8_opens_29 : decode cX8_opens 29 = .ok (.ireturn, 1) := dk_172 (dk_at dksX8_opens_1 5 rfl rfl)
abbrev cX8_added : ByteArray := prog_16_method_27_code
def yX8_added : MethodName := ⟨RX8, "added", "()I"⟩
def dkwX8_added_2 : List UInt8 := [62, 28, 153, 0, 9, 27, 29, 96, 167, 0, 6, 27, 29, 100, 60, 167, 255, 198, 27, 172]
abbrev dktX8_added_2 : List UInt8 := dkwX8_added_2 ++ []
def dkwX8_added_1 : List UInt8 := [180, 0, 181, 20, 0, 247, 148, 154, 0, 7, 4, 167, 0, 4, 3, 61, 42, 182, 0, 202, 42, 182, 0, 244]
abbrev dktX8_added_1 : List UInt8 := dkwX8_added_1 ++ dktX8_added_2
def dkwX8_added_0 : List UInt8 := [42, 182, 0, 244, 60, 42, 16, 43, 182, 0, 227, 154, 0, 12, 42, 16, 45, 182, 0, 227, 153, 0, 46, 42]
abbrev dktX8_added_0 : List UInt8 := dkwX8_added_0 ++ dktX8_added_1
theorem dksX8_added_0 : cX8_added.data.toList.drop 0 = dktX8_added_0 := by decide +kernel
theorem dksX8_added_1 : cX8_added.data.toList.drop 24 = dktX8_added_1 := dk_seg dksX8_added_0 24 rfl rfl
theorem dksX8_added_2 : cX8_added.data.toList.drop 48 = dktX8_added_2 := dk_seg dksX8_added_1 24 rfl rfl
theorem dX8_added_0 : decode cX8_added 0 = .ok (.aload_n 0, 1) := dk_42 (dk_at dksX8_added_0 0 rfl rfl)
theorem dX8_added_1 : decode cX8_added 1 = .ok (.invokevirtual 244, 3) := dk_182 0 244 (dk_at dksX8_added_0 1 rfl rfl)
theorem dX8_added_4 : decode cX8_added 4 = .ok (.istore_n 1, 1) := dk_60 (dk_at dksX8_added_0 4 rfl rfl)
theorem dX8_added_5 : decode cX8_added 5 = .ok (.aload_n 0, 1) := dk_42 (dk_at dksX8_added_0 5 rfl rfl)
theorem dX8_added_6 : decode cX8_added 6 = .ok (.bipush 43, 2) := dk_16 43 (dk_at dksX8_added_0 6 rfl rfl)
theorem dX8_added_8 : decode cX8_added 8 = .ok (.invokevirtual 227, 3) := dk_182 0 227 (dk_at dksX8_added_0 8 rfl rfl)
theorem dX8_added_11 : decode cX8_added 11 = .ok (.ifCond .ne 12, 3) := dk_154 0 12 (dk_at dksX8_added_0 11 rfl rfl)
theorem dX8_added_14 : decode cX8_added 14 = .ok (.aload_n 0, 1) := dk_42 (dk_at dksX8_added_0 14 rfl rfl)
theorem dX8_added_15 : decode cX8_added 15 = .ok (.bipush 45, 2) := dk_16 45 (dk_at dksX8_added_0 15 rfl rfl)
theorem dX8_added_17 : decode cX8_added 17 = .ok (.invokevirtual 227, 3) := dk_182 0 227 (dk_at dksX8_added_0 17 rfl rfl)
theorem dX8_added_20 : decode cX8_added 20 = .ok (.ifCond .eq 46, 3) := dk_153 0 46 (dk_at dksX8_added_0 20 rfl rfl)
theorem dX8_added_23 : decode cX8_added 23 = .ok (.aload_n 0, 1) := dk_42 (dk_at dksX8_added_0 23 rfl rfl)
theorem dX8_added_24 : decode cX8_added 24 = .ok (.getfield 181, 3) := dk_180 0 181 (dk_at dksX8_added_1 0 rfl rfl)
theorem dX8_added_27 : decode cX8_added 27 = .ok (.ldc2_w 247, 3) := dk_20 0 247 (dk_at dksX8_added_1 3 rfl rfl)
theorem dX8_added_30 : decode cX8_added 30 = .ok (.lcmp, 1) := dk_148 (dk_at dksX8_added_1 6 rfl rfl)
theorem dX8_added_31 : decode cX8_added 31 = .ok (.ifCond .ne 7, 3) := dk_154 0 7 (dk_at dksX8_added_1 7 rfl rfl)
theorem dX8_added_34 : decode cX8_added 34 = .ok (.iconst 1, 1) := dk_4 (dk_at dksX8_added_1 10 rfl rfl)
theorem dX8_added_35 : decode cX8_added 35 = .ok (.goto 4, 3) := dk_167 0 4 (dk_at dksX8_added_1 11 rfl rfl)
theorem dX8_added_38 : decode cX8_added 38 = .ok (.iconst 0, 1) := dk_3 (dk_at dksX8_added_1 14 rfl rfl)
theorem dX8_added_39 : decode cX8_added 39 = .ok (.istore_n 2, 1) := dk_61 (dk_at dksX8_added_1 15 rfl rfl)
theorem dX8_added_40 : decode cX8_added 40 = .ok (.aload_n 0, 1) := dk_42 (dk_at dksX8_added_1 16 rfl rfl)
theorem dX8_added_41 : decode cX8_added 41 = .ok (.invokevirtual 202, 3) := dk_182 0 202 (dk_at dksX8_added_1 17 rfl rfl)
theorem dX8_added_44 : decode cX8_added 44 = .ok (.aload_n 0, 1) := dk_42 (dk_at dksX8_added_1 20 rfl rfl)
theorem dX8_added_45 : decode cX8_added 45 = .ok (.invokevirtual 244, 3) := dk_182 0 244 (dk_at dksX8_added_1 21 rfl rfl)
theorem dX8_added_48 : decode cX8_added 48 = .ok (.istore_n 3, 1) := dk_62 (dk_at dksX8_added_2 0 rfl rfl)
theorem dX8_added_49 : decode cX8_added 49 = .ok (.iload_n 2, 1) := dk_28 (dk_at dksX8_added_2 1 rfl rfl)
theorem dX8_added_50 : decode cX8_added 50 = .ok (.ifCond .eq 9, 3) := dk_153 0 9 (dk_at dksX8_added_2 2 rfl rfl)
theorem dX8_added_53 : decode cX8_added 53 = .ok (.iload_n 1, 1) := dk_27 (dk_at dksX8_added_2 5 rfl rfl)
theorem dX8_added_54 : decode cX8_added 54 = .ok (.iload_n 3, 1) := dk_29 (dk_at dksX8_added_2 6 rfl rfl)
theorem dX8_added_55 : decode cX8_added 55 = .ok (.iadd, 1) := dk_96 (dk_at dksX8_added_2 7 rfl rfl)
theorem dX8_added_56 : decode cX8_added 56 = .ok (.goto 6, 3) := dk_167 0 6 (dk_at dksX8_added_2 8 rfl rfl)
theorem dX8_added_59 : decode cX8_added 59 = .ok (.iload_n 1, 1) := dk_27 (dk_at dksX8_added_2 11 rfl rfl)
theorem dX8_added_60 : decode cX8_added 60 = .ok (.iload_n 3, 1) := dk_29 (dk_at dksX8_added_2 12 rfl rfl)
theorem dX8_added_61 : decode cX8_added 61 = .ok (.isub, 1) := dk_100 (dk_at dksX8_added_2 13 rfl rfl)
theorem dX8_added_62 : decode cX8_added 62 = .ok (.istore_n 1, 1) := dk_60 (dk_at dksX8_added_2 14 rfl rfl)
theorem dX8_added_63 : decode cX8_added 63 = .ok (.goto (-58), 3) := dk_167 255 198 (dk_at dksX8_added_2 15 rfl rfl)
theorem dX8_added_66 : decode cX8_added 66 = .ok (.iload_n 1, 1) := dk_27 (dk_at dksX8_added_2 18 rfl rfl)
theorem dX8_added_67 : decode cX8_added 67 = .ok (.ireturn, 1) := dk_172 (dk_at dksX8_added_2 19 rfl rfl)
abbrev cX8_term : ByteArray := prog_16_method_26_code
def yX8_term : MethodName := ⟨RX8, "term", "()I"⟩
def dkwX8_term_1 : List UInt8 := [60, 167, 255, 236, 27, 172]
abbrev dktX8_term_1 : List UInt8 := dkwX8_term_1 ++ []
def dkwX8_term_0 : List UInt8 := [42, 182, 0, 234, 60, 42, 16, 42, 182, 0, 227, 153, 0, 17, 42, 182, 0, 202, 27, 42, 182, 0, 234, 104]
abbrev dktX8_term_0 : List UInt8 := dkwX8_term_0 ++ dktX8_term_1
theorem dksX8_term_0 : cX8_term.data.toList.drop 0 = dktX8_term_0 := by decide +kernel
theorem dksX8_term_1 : cX8_term.data.toList.drop 24 = dktX8_term_1 := dk_seg dksX8_term_0 24 rfl rfl
theorem dX8_term_0 : decode cX8_term 0 = .ok (.aload_n 0, 1) := dk_42 (dk_at dksX8_term_0 0 rfl rfl)
theorem dX8_term_1 : decode cX8_term 1 = .ok (.invokevirtual 234, 3) := dk_182 0 234 (dk_at dksX8_term_0 1 rfl rfl)
theorem dX8_term_4 : decode cX8_term 4 = .ok (.istore_n 1, 1) := dk_60 (dk_at dksX8_term_0 4 rfl rfl)
theorem dX8_term_5 : decode cX8_term 5 = .ok (.aload_n 0, 1) := dk_42 (dk_at dksX8_term_0 5 rfl rfl)
theorem dX8_term_6 : decode cX8_term 6 = .ok (.bipush 42, 2) := dk_16 42 (dk_at dksX8_term_0 6 rfl rfl)
theorem dX8_term_8 : decode cX8_term 8 = .ok (.invokevirtual 227, 3) := dk_182 0 227 (dk_at dksX8_term_0 8 rfl rfl)
theorem dX8_term_11 : decode cX8_term 11 = .ok (.ifCond .eq 17, 3) := dk_153 0 17 (dk_at dksX8_term_0 11 rfl rfl)
theorem dX8_term_14 : decode cX8_term 14 = .ok (.aload_n 0, 1) := dk_42 (dk_at dksX8_term_0 14 rfl rfl)
theorem dX8_term_15 : decode cX8_term 15 = .ok (.invokevirtual 202, 3) := dk_182 0 202 (dk_at dksX8_term_0 15 rfl rfl)
theorem dX8_term_18 : decode cX8_term 18 = .ok (.iload_n 1, 1) := dk_27 (dk_at dksX8_term_0 18 rfl rfl)
theorem dX8_term_19 : decode cX8_term 19 = .ok (.aload_n 0, 1) := dk_42 (dk_at dksX8_term_0 19 rfl rfl)
theorem dX8_term_20 : decode cX8_term 20 = .ok (.invokevirtual 234, 3) := dk_182 0 234 (dk_at dksX8_term_0 20 rfl rfl)
theorem dX8_term_23 : decode cX8_term 23 = .ok (.imul, 1) := dk_104 (dk_at dksX8_term_0 23 rfl rfl)
theorem dX8_term_24 : decode cX8_term 24 = .ok (.istore_n 1, 1) := dk_60 (dk_at dksX8_term_1 0 rfl rfl)
theorem dX8_term_25 : decode cX8_term 25 = .ok (.goto (-20), 3) := dk_167 255 236 (dk_at dksX8_term_1 1 rfl rfl)
theorem dX8_term_28 : decode cX8_term 28 = .ok (.iload_n 1, 1) := dk_27 (dk_at dksX8_term_1 4 rfl rfl)
theorem dX8_term_29 : decode cX8_term 29 = .ok (.ireturn, 1) := dk_172 (dk_at dksX8_term_1 5 rfl rfl)
abbrev cX8_atom : ByteArray := prog_16_method_25_code
def yX8_atom : MethodName := ⟨RX8, "atom", "()I"⟩
def dkwX8_atom_6 : List UInt8 := [182, 0, 241, 60, 42, 180, 0, 185, 154, 0, 14, 42, 182, 0, 202, 167, 0, 7, 42, 182, 0, 199, 27, 172]
abbrev dktX8_atom_6 : List UInt8 := dkwX8_atom_6 ++ []
def dkwX8_atom_5 : List UInt8 := [182, 0, 202, 167, 0, 41, 42, 180, 0, 185, 154, 0, 30, 42, 180, 0, 170, 4, 160, 0, 22, 42]
abbrev dktX8_atom_5 : List UInt8 := dkwX8_atom_5 ++ dktX8_atom_6
def dkwX8_atom_4 : List UInt8 := [42, 180, 0, 185, 154, 0, 24, 42, 180, 0, 170, 5, 160, 0, 16, 42, 180, 0, 181, 136, 60, 42]
abbrev dktX8_atom_4 : List UInt8 := dkwX8_atom_4 ++ dktX8_atom_5
def dkwX8_atom_3 : List UInt8 := [42, 89, 180, 0, 196, 4, 100, 181, 0, 196, 42, 180, 0, 185, 154, 0, 76, 42, 182, 0, 202, 167, 0, 69]
abbrev dktX8_atom_3 : List UInt8 := dkwX8_atom_3 ++ dktX8_atom_4
def dkwX8_atom_2 : List UInt8 := [182, 0, 230, 153, 0, 111, 42, 182, 0, 238, 60, 42, 16, 41, 182, 0, 227, 154, 0, 7, 42, 182, 0, 199]
abbrev dktX8_atom_2 : List UInt8 := dkwX8_atom_2 ++ dktX8_atom_3
def dkwX8_atom_1 : List UInt8 := [42, 89, 180, 0, 196, 4, 100, 181, 0, 196, 167, 0, 127, 42, 16, 40, 182, 0, 227, 153, 0, 52, 42]
abbrev dktX8_atom_1 : List UInt8 := dkwX8_atom_1 ++ dktX8_atom_2
def dkwX8_atom_0 : List UInt8 := [3, 60, 42, 16, 45, 182, 0, 227, 153, 0, 29, 42, 182, 0, 230, 153, 0, 146, 42, 182, 0, 234, 116, 60]
abbrev dktX8_atom_0 : List UInt8 := dkwX8_atom_0 ++ dktX8_atom_1
theorem dksX8_atom_0 : cX8_atom.data.toList.drop 0 = dktX8_atom_0 := by decide +kernel
theorem dksX8_atom_1 : cX8_atom.data.toList.drop 24 = dktX8_atom_1 := dk_seg dksX8_atom_0 24 rfl rfl
theorem dksX8_atom_2 : cX8_atom.data.toList.drop 47 = dktX8_atom_2 := dk_seg dksX8_atom_1 23 rfl rfl
theorem dksX8_atom_3 : cX8_atom.data.toList.drop 71 = dktX8_atom_3 := dk_seg dksX8_atom_2 24 rfl rfl
theorem dksX8_atom_4 : cX8_atom.data.toList.drop 95 = dktX8_atom_4 := dk_seg dksX8_atom_3 24 rfl rfl
theorem dksX8_atom_5 : cX8_atom.data.toList.drop 117 = dktX8_atom_5 := dk_seg dksX8_atom_4 22 rfl rfl
theorem dksX8_atom_6 : cX8_atom.data.toList.drop 139 = dktX8_atom_6 := dk_seg dksX8_atom_5 22 rfl rfl
theorem dX8_atom_0 : decode cX8_atom 0 = .ok (.iconst 0, 1) := dk_3 (dk_at dksX8_atom_0 0 rfl rfl)
theorem dX8_atom_1 : decode cX8_atom 1 = .ok (.istore_n 1, 1) := dk_60 (dk_at dksX8_atom_0 1 rfl rfl)
theorem dX8_atom_2 : decode cX8_atom 2 = .ok (.aload_n 0, 1) := dk_42 (dk_at dksX8_atom_0 2 rfl rfl)
theorem dX8_atom_3 : decode cX8_atom 3 = .ok (.bipush 45, 2) := dk_16 45 (dk_at dksX8_atom_0 3 rfl rfl)
theorem dX8_atom_5 : decode cX8_atom 5 = .ok (.invokevirtual 227, 3) := dk_182 0 227 (dk_at dksX8_atom_0 5 rfl rfl)
theorem dX8_atom_8 : decode cX8_atom 8 = .ok (.ifCond .eq 29, 3) := dk_153 0 29 (dk_at dksX8_atom_0 8 rfl rfl)
theorem dX8_atom_11 : decode cX8_atom 11 = .ok (.aload_n 0, 1) := dk_42 (dk_at dksX8_atom_0 11 rfl rfl)
theorem dX8_atom_12 : decode cX8_atom 12 = .ok (.invokevirtual 230, 3) := dk_182 0 230 (dk_at dksX8_atom_0 12 rfl rfl)
theorem dX8_atom_15 : decode cX8_atom 15 = .ok (.ifCond .eq 146, 3) := dk_153 0 146 (dk_at dksX8_atom_0 15 rfl rfl)
theorem dX8_atom_18 : decode cX8_atom 18 = .ok (.aload_n 0, 1) := dk_42 (dk_at dksX8_atom_0 18 rfl rfl)
theorem dX8_atom_19 : decode cX8_atom 19 = .ok (.invokevirtual 234, 3) := dk_182 0 234 (dk_at dksX8_atom_0 19 rfl rfl)
theorem dX8_atom_22 : decode cX8_atom 22 = .ok (.ineg, 1) := dk_116 (dk_at dksX8_atom_0 22 rfl rfl)
theorem dX8_atom_23 : decode cX8_atom 23 = .ok (.istore_n 1, 1) := dk_60 (dk_at dksX8_atom_0 23 rfl rfl)
theorem dX8_atom_24 : decode cX8_atom 24 = .ok (.aload_n 0, 1) := dk_42 (dk_at dksX8_atom_1 0 rfl rfl)
theorem dX8_atom_25 : decode cX8_atom 25 = .ok (.dup, 1) := dk_89 (dk_at dksX8_atom_1 1 rfl rfl)
theorem dX8_atom_26 : decode cX8_atom 26 = .ok (.getfield 196, 3) := dk_180 0 196 (dk_at dksX8_atom_1 2 rfl rfl)
theorem dX8_atom_29 : decode cX8_atom 29 = .ok (.iconst 1, 1) := dk_4 (dk_at dksX8_atom_1 5 rfl rfl)
theorem dX8_atom_30 : decode cX8_atom 30 = .ok (.isub, 1) := dk_100 (dk_at dksX8_atom_1 6 rfl rfl)
theorem dX8_atom_31 : decode cX8_atom 31 = .ok (.putfield 196, 3) := dk_181 0 196 (dk_at dksX8_atom_1 7 rfl rfl)
theorem dX8_atom_34 : decode cX8_atom 34 = .ok (.goto 127, 3) := dk_167 0 127 (dk_at dksX8_atom_1 10 rfl rfl)
theorem dX8_atom_37 : decode cX8_atom 37 = .ok (.aload_n 0, 1) := dk_42 (dk_at dksX8_atom_1 13 rfl rfl)
theorem dX8_atom_38 : decode cX8_atom 38 = .ok (.bipush 40, 2) := dk_16 40 (dk_at dksX8_atom_1 14 rfl rfl)
theorem dX8_atom_40 : decode cX8_atom 40 = .ok (.invokevirtual 227, 3) := dk_182 0 227 (dk_at dksX8_atom_1 16 rfl rfl)
theorem dX8_atom_43 : decode cX8_atom 43 = .ok (.ifCond .eq 52, 3) := dk_153 0 52 (dk_at dksX8_atom_1 19 rfl rfl)
theorem dX8_atom_46 : decode cX8_atom 46 = .ok (.aload_n 0, 1) := dk_42 (dk_at dksX8_atom_1 22 rfl rfl)
theorem dX8_atom_47 : decode cX8_atom 47 = .ok (.invokevirtual 230, 3) := dk_182 0 230 (dk_at dksX8_atom_2 0 rfl rfl)
theorem dX8_atom_50 : decode cX8_atom 50 = .ok (.ifCond .eq 111, 3) := dk_153 0 111 (dk_at dksX8_atom_2 3 rfl rfl)
theorem dX8_atom_53 : decode cX8_atom 53 = .ok (.aload_n 0, 1) := dk_42 (dk_at dksX8_atom_2 6 rfl rfl)
theorem dX8_atom_54 : decode cX8_atom 54 = .ok (.invokevirtual 238, 3) := dk_182 0 238 (dk_at dksX8_atom_2 7 rfl rfl)
theorem dX8_atom_57 : decode cX8_atom 57 = .ok (.istore_n 1, 1) := dk_60 (dk_at dksX8_atom_2 10 rfl rfl)
theorem dX8_atom_58 : decode cX8_atom 58 = .ok (.aload_n 0, 1) := dk_42 (dk_at dksX8_atom_2 11 rfl rfl)
theorem dX8_atom_59 : decode cX8_atom 59 = .ok (.bipush 41, 2) := dk_16 41 (dk_at dksX8_atom_2 12 rfl rfl)
theorem dX8_atom_61 : decode cX8_atom 61 = .ok (.invokevirtual 227, 3) := dk_182 0 227 (dk_at dksX8_atom_2 14 rfl rfl)
theorem dX8_atom_64 : decode cX8_atom 64 = .ok (.ifCond .ne 7, 3) := dk_154 0 7 (dk_at dksX8_atom_2 17 rfl rfl)
theorem dX8_atom_67 : decode cX8_atom 67 = .ok (.aload_n 0, 1) := dk_42 (dk_at dksX8_atom_2 20 rfl rfl)
theorem dX8_atom_68 : decode cX8_atom 68 = .ok (.invokevirtual 199, 3) := dk_182 0 199 (dk_at dksX8_atom_2 21 rfl rfl)
theorem dX8_atom_71 : decode cX8_atom 71 = .ok (.aload_n 0, 1) := dk_42 (dk_at dksX8_atom_3 0 rfl rfl)
theorem dX8_atom_72 : decode cX8_atom 72 = .ok (.dup, 1) := dk_89 (dk_at dksX8_atom_3 1 rfl rfl)
theorem dX8_atom_73 : decode cX8_atom 73 = .ok (.getfield 196, 3) := dk_180 0 196 (dk_at dksX8_atom_3 2 rfl rfl)
theorem dX8_atom_76 : decode cX8_atom 76 = .ok (.iconst 1, 1) := dk_4 (dk_at dksX8_atom_3 5 rfl rfl)
theorem dX8_atom_77 : decode cX8_atom 77 = .ok (.isub, 1) := dk_100 (dk_at dksX8_atom_3 6 rfl rfl)
theorem dX8_atom_78 : decode cX8_atom 78 = .ok (.putfield 196, 3) := dk_181 0 196 (dk_at dksX8_atom_3 7 rfl rfl)
theorem dX8_atom_81 : decode cX8_atom 81 = .ok (.aload_n 0, 1) := dk_42 (dk_at dksX8_atom_3 10 rfl rfl)
theorem dX8_atom_82 : decode cX8_atom 82 = .ok (.getfield 185, 3) := dk_180 0 185 (dk_at dksX8_atom_3 11 rfl rfl)
theorem dX8_atom_85 : decode cX8_atom 85 = .ok (.ifCond .ne 76, 3) := dk_154 0 76 (dk_at dksX8_atom_3 14 rfl rfl)
theorem dX8_atom_88 : decode cX8_atom 88 = .ok (.aload_n 0, 1) := dk_42 (dk_at dksX8_atom_3 17 rfl rfl)
theorem dX8_atom_89 : decode cX8_atom 89 = .ok (.invokevirtual 202, 3) := dk_182 0 202 (dk_at dksX8_atom_3 18 rfl rfl)
theorem dX8_atom_92 : decode cX8_atom 92 = .ok (.goto 69, 3) := dk_167 0 69 (dk_at dksX8_atom_3 21 rfl rfl)
theorem dX8_atom_95 : decode cX8_atom 95 = .ok (.aload_n 0, 1) := dk_42 (dk_at dksX8_atom_4 0 rfl rfl)
theorem dX8_atom_96 : decode cX8_atom 96 = .ok (.getfield 185, 3) := dk_180 0 185 (dk_at dksX8_atom_4 1 rfl rfl)
theorem dX8_atom_99 : decode cX8_atom 99 = .ok (.ifCond .ne 24, 3) := dk_154 0 24 (dk_at dksX8_atom_4 4 rfl rfl)
theorem dX8_atom_102 : decode cX8_atom 102 = .ok (.aload_n 0, 1) := dk_42 (dk_at dksX8_atom_4 7 rfl rfl)
theorem dX8_atom_103 : decode cX8_atom 103 = .ok (.getfield 170, 3) := dk_180 0 170 (dk_at dksX8_atom_4 8 rfl rfl)
theorem dX8_atom_106 : decode cX8_atom 106 = .ok (.iconst 2, 1) := dk_5 (dk_at dksX8_atom_4 11 rfl rfl)
theorem dX8_atom_107 : decode cX8_atom 107 = .ok (.if_icmp .ne 16, 3) := dk_160 0 16 (dk_at dksX8_atom_4 12 rfl rfl)
theorem dX8_atom_110 : decode cX8_atom 110 = .ok (.aload_n 0, 1) := dk_42 (dk_at dksX8_atom_4 15 rfl rfl)
theorem dX8_atom_111 : decode cX8_atom 111 = .ok (.getfield 181, 3) := dk_180 0 181 (dk_at dksX8_atom_4 16 rfl rfl)
theorem dX8_atom_114 : decode cX8_atom 114 = .ok (.l2i, 1) := dk_136 (dk_at dksX8_atom_4 19 rfl rfl)
theorem dX8_atom_115 : decode cX8_atom 115 = .ok (.istore_n 1, 1) := dk_60 (dk_at dksX8_atom_4 20 rfl rfl)
theorem dX8_atom_116 : decode cX8_atom 116 = .ok (.aload_n 0, 1) := dk_42 (dk_at dksX8_atom_4 21 rfl rfl)
theorem dX8_atom_117 : decode cX8_atom 117 = .ok (.invokevirtual 202, 3) := dk_182 0 202 (dk_at dksX8_atom_5 0 rfl rfl)
theorem dX8_atom_120 : decode cX8_atom 120 = .ok (.goto 41, 3) := dk_167 0 41 (dk_at dksX8_atom_5 3 rfl rfl)
theorem dX8_atom_123 : decode cX8_atom 123 = .ok (.aload_n 0, 1) := dk_42 (dk_at dksX8_atom_5 6 rfl rfl)
theorem dX8_atom_124 : decode cX8_atom 124 = .ok (.getfield 185, 3) := dk_180 0 185 (dk_at dksX8_atom_5 7 rfl rfl)
theorem dX8_atom_127 : decode cX8_atom 127 = .ok (.ifCond .ne 30, 3) := dk_154 0 30 (dk_at dksX8_atom_5 10 rfl rfl)
theorem dX8_atom_130 : decode cX8_atom 130 = .ok (.aload_n 0, 1) := dk_42 (dk_at dksX8_atom_5 13 rfl rfl)
theorem dX8_atom_131 : decode cX8_atom 131 = .ok (.getfield 170, 3) := dk_180 0 170 (dk_at dksX8_atom_5 14 rfl rfl)
theorem dX8_atom_134 : decode cX8_atom 134 = .ok (.iconst 1, 1) := dk_4 (dk_at dksX8_atom_5 17 rfl rfl)
theorem dX8_atom_135 : decode cX8_atom 135 = .ok (.if_icmp .ne 22, 3) := dk_160 0 22 (dk_at dksX8_atom_5 18 rfl rfl)
theorem dX8_atom_138 : decode cX8_atom 138 = .ok (.aload_n 0, 1) := dk_42 (dk_at dksX8_atom_5 21 rfl rfl)
theorem dX8_atom_139 : decode cX8_atom 139 = .ok (.invokevirtual 241, 3) := dk_182 0 241 (dk_at dksX8_atom_6 0 rfl rfl)
theorem dX8_atom_142 : decode cX8_atom 142 = .ok (.istore_n 1, 1) := dk_60 (dk_at dksX8_atom_6 3 rfl rfl)
theorem dX8_atom_143 : decode cX8_atom 143 = .ok (.aload_n 0, 1) := dk_42 (dk_at dksX8_atom_6 4 rfl rfl)
theorem dX8_atom_144 : decode cX8_atom 144 = .ok (.getfield 185, 3) := dk_180 0 185 (dk_at dksX8_atom_6 5 rfl rfl)
theorem dX8_atom_147 : decode cX8_atom 147 = .ok (.ifCond .ne 14, 3) := dk_154 0 14 (dk_at dksX8_atom_6 8 rfl rfl)
theorem dX8_atom_150 : decode cX8_atom 150 = .ok (.aload_n 0, 1) := dk_42 (dk_at dksX8_atom_6 11 rfl rfl)
theorem dX8_atom_151 : decode cX8_atom 151 = .ok (.invokevirtual 202, 3) := dk_182 0 202 (dk_at dksX8_atom_6 12 rfl rfl)
theorem dX8_atom_154 : decode cX8_atom 154 = .ok (.goto 7, 3) := dk_167 0 7 (dk_at dksX8_atom_6 15 rfl rfl)
theorem dX8_atom_157 : decode cX8_atom 157 = .ok (.aload_n 0, 1) := dk_42 (dk_at dksX8_atom_6 18 rfl rfl)
theorem dX8_atom_158 : decode cX8_atom 158 = .ok (.invokevirtual 199, 3) := dk_182 0 199 (dk_at dksX8_atom_6 19 rfl rfl)
theorem dX8_atom_161 : decode cX8_atom 161 = .ok (.iload_n 1, 1) := dk_27 (dk_at dksX8_atom_6 22 rfl rfl)
theorem dX8_atom_162 : decode cX8_atom 162 = .ok (.ireturn, 1) := dk_172 (dk_at dksX8_atom_6 23 rfl rfl)
abbrev cX8_isSign : ByteArray := prog_16_method_22_code
def yX8_isSign : MethodName := ⟨RX8, "isSign", "(I)Z"⟩
def dkwX8_isSign_1 : List UInt8 := [154, 0, 7, 4, 167, 0, 4, 3, 172]
abbrev dktX8_isSign_1 : List UInt8 := dkwX8_isSign_1 ++ []
def dkwX8_isSign_0 : List UInt8 := [42, 180, 0, 185, 154, 0, 25, 42, 180, 0, 170, 6, 160, 0, 17, 42, 180, 0, 181, 27, 133, 148]
abbrev dktX8_isSign_0 : List UInt8 := dkwX8_isSign_0 ++ dktX8_isSign_1
theorem dksX8_isSign_0 : cX8_isSign.data.toList.drop 0 = dktX8_isSign_0 := by decide +kernel
theorem dksX8_isSign_1 : cX8_isSign.data.toList.drop 22 = dktX8_isSign_1 := dk_seg dksX8_isSign_0 22 rfl rfl
theorem dX8_isSign_0 : decode cX8_isSign 0 = .ok (.aload_n 0, 1) := dk_42 (dk_at dksX8_isSign_0 0 rfl rfl)
theorem dX8_isSign_1 : decode cX8_isSign 1 = .ok (.getfield 185, 3) := dk_180 0 185 (dk_at dksX8_isSign_0 1 rfl rfl)
theorem dX8_isSign_4 : decode cX8_isSign 4 = .ok (.ifCond .ne 25, 3) := dk_154 0 25 (dk_at dksX8_isSign_0 4 rfl rfl)
theorem dX8_isSign_7 : decode cX8_isSign 7 = .ok (.aload_n 0, 1) := dk_42 (dk_at dksX8_isSign_0 7 rfl rfl)
theorem dX8_isSign_8 : decode cX8_isSign 8 = .ok (.getfield 170, 3) := dk_180 0 170 (dk_at dksX8_isSign_0 8 rfl rfl)
theorem dX8_isSign_11 : decode cX8_isSign 11 = .ok (.iconst 3, 1) := dk_6 (dk_at dksX8_isSign_0 11 rfl rfl)
theorem dX8_isSign_12 : decode cX8_isSign 12 = .ok (.if_icmp .ne 17, 3) := dk_160 0 17 (dk_at dksX8_isSign_0 12 rfl rfl)
theorem dX8_isSign_15 : decode cX8_isSign 15 = .ok (.aload_n 0, 1) := dk_42 (dk_at dksX8_isSign_0 15 rfl rfl)
theorem dX8_isSign_16 : decode cX8_isSign 16 = .ok (.getfield 181, 3) := dk_180 0 181 (dk_at dksX8_isSign_0 16 rfl rfl)
theorem dX8_isSign_19 : decode cX8_isSign 19 = .ok (.iload_n 1, 1) := dk_27 (dk_at dksX8_isSign_0 19 rfl rfl)
theorem dX8_isSign_20 : decode cX8_isSign 20 = .ok (.i2l, 1) := dk_133 (dk_at dksX8_isSign_0 20 rfl rfl)
theorem dX8_isSign_21 : decode cX8_isSign 21 = .ok (.lcmp, 1) := dk_148 (dk_at dksX8_isSign_0 21 rfl rfl)
theorem dX8_isSign_22 : decode cX8_isSign 22 = .ok (.ifCond .ne 7, 3) := dk_154 0 7 (dk_at dksX8_isSign_1 0 rfl rfl)
theorem dX8_isSign_25 : decode cX8_isSign 25 = .ok (.iconst 1, 1) := dk_4 (dk_at dksX8_isSign_1 3 rfl rfl)
theorem dX8_isSign_26 : decode cX8_isSign 26 = .ok (.goto 4, 3) := dk_167 0 4 (dk_at dksX8_isSign_1 4 rfl rfl)
theorem dX8_isSign_29 : decode cX8_isSign 29 = .ok (.iconst 0, 1) := dk_3 (dk_at dksX8_isSign_1 7 rfl rfl)
theorem dX8_isSign_30 : decode cX8_isSign 30 = .ok (.ireturn, 1) := dk_172 (dk_at dksX8_isSign_1 8 rfl rfl)
abbrev cX8_name : ByteArray := prog_16_method_24_code
def yX8_name : MethodName := ⟨RX8, "name", "()I"⟩
def dkwX8_name_6 : List UInt8 := [180, 0, 224, 172, 42, 182, 0, 199, 3, 172]
abbrev dktX8_name_6 : List UInt8 := dkwX8_name_6 ++ []
def dkwX8_name_5 : List UInt8 := [42, 180, 0, 221, 172, 42, 16, 114, 16, 111, 16, 119, 3, 3, 3, 3, 3, 182, 0, 205, 153, 0, 8, 42]
abbrev dktX8_name_5 : List UInt8 := dkwX8_name_5 ++ dktX8_name_6
def dkwX8_name_4 : List UInt8 := [180, 0, 218, 172, 42, 16, 97, 16, 112, 16, 114, 16, 111, 16, 110, 3, 3, 3, 182, 0, 205, 153, 0, 8]
abbrev dktX8_name_4 : List UInt8 := dkwX8_name_4 ++ dktX8_name_5
def dkwX8_name_3 : List UInt8 := [172, 42, 16, 110, 16, 105, 16, 103, 16, 104, 16, 116, 3, 3, 3, 182, 0, 205, 153, 0, 8, 42]
abbrev dktX8_name_3 : List UInt8 := dkwX8_name_3 ++ dktX8_name_4
def dkwX8_name_2 : List UInt8 := [16, 110, 16, 117, 16, 109, 16, 98, 16, 101, 16, 114, 3, 3, 182, 0, 205, 153, 0, 8, 42, 180, 0, 215]
abbrev dktX8_name_2 : List UInt8 := dkwX8_name_2 ++ dktX8_name_3
def dkwX8_name_1 : List UInt8 := [16, 110, 16, 116, 16, 104, 3, 3, 3, 3, 3, 182, 0, 205, 153, 0, 8, 42, 180, 0, 212, 172, 42]
abbrev dktX8_name_1 : List UInt8 := dkwX8_name_1 ++ dktX8_name_2
def dkwX8_name_0 : List UInt8 := [42, 16, 103, 16, 97, 16, 112, 3, 3, 3, 3, 3, 182, 0, 205, 153, 0, 8, 42, 180, 0, 209, 172, 42]
abbrev dktX8_name_0 : List UInt8 := dkwX8_name_0 ++ dktX8_name_1
theorem dksX8_name_0 : cX8_name.data.toList.drop 0 = dktX8_name_0 := by decide +kernel
theorem dksX8_name_1 : cX8_name.data.toList.drop 24 = dktX8_name_1 := dk_seg dksX8_name_0 24 rfl rfl
theorem dksX8_name_2 : cX8_name.data.toList.drop 47 = dktX8_name_2 := dk_seg dksX8_name_1 23 rfl rfl
theorem dksX8_name_3 : cX8_name.data.toList.drop 71 = dktX8_name_3 := dk_seg dksX8_name_2 24 rfl rfl
theorem dksX8_name_4 : cX8_name.data.toList.drop 93 = dktX8_name_4 := dk_seg dksX8_name_3 22 rfl rfl
theorem dksX8_name_5 : cX8_name.data.toList.drop 117 = dktX8_name_5 := dk_seg dksX8_name_4 24 rfl rfl
theorem dksX8_name_6 : cX8_name.data.toList.drop 141 = dktX8_name_6 := dk_seg dksX8_name_5 24 rfl rfl
theorem dX8_name_0 : decode cX8_name 0 = .ok (.aload_n 0, 1) := dk_42 (dk_at dksX8_name_0 0 rfl rfl)
theorem dX8_name_1 : decode cX8_name 1 = .ok (.bipush 103, 2) := dk_16 103 (dk_at dksX8_name_0 1 rfl rfl)
theorem dX8_name_3 : decode cX8_name 3 = .ok (.bipush 97, 2) := dk_16 97 (dk_at dksX8_name_0 3 rfl rfl)
theorem dX8_name_5 : decode cX8_name 5 = .ok (.bipush 112, 2) := dk_16 112 (dk_at dksX8_name_0 5 rfl rfl)
theorem dX8_name_7 : decode cX8_name 7 = .ok (.iconst 0, 1) := dk_3 (dk_at dksX8_name_0 7 rfl rfl)
theorem dX8_name_8 : decode cX8_name 8 = .ok (.iconst 0, 1) := dk_3 (dk_at dksX8_name_0 8 rfl rfl)
theorem dX8_name_9 : decode cX8_name 9 = .ok (.iconst 0, 1) := dk_3 (dk_at dksX8_name_0 9 rfl rfl)
theorem dX8_name_10 : decode cX8_name 10 = .ok (.iconst 0, 1) := dk_3 (dk_at dksX8_name_0 10 rfl rfl)
theorem dX8_name_11 : decode cX8_name 11 = .ok (.iconst 0, 1) := dk_3 (dk_at dksX8_name_0 11 rfl rfl)
theorem dX8_name_12 : decode cX8_name 12 = .ok (.invokevirtual 205, 3) := dk_182 0 205 (dk_at dksX8_name_0 12 rfl rfl)
theorem dX8_name_15 : decode cX8_name 15 = .ok (.ifCond .eq 8, 3) := dk_153 0 8 (dk_at dksX8_name_0 15 rfl rfl)
theorem dX8_name_18 : decode cX8_name 18 = .ok (.aload_n 0, 1) := dk_42 (dk_at dksX8_name_0 18 rfl rfl)
theorem dX8_name_19 : decode cX8_name 19 = .ok (.getfield 209, 3) := dk_180 0 209 (dk_at dksX8_name_0 19 rfl rfl)
theorem dX8_name_22 : decode cX8_name 22 = .ok (.ireturn, 1) := dk_172 (dk_at dksX8_name_0 22 rfl rfl)
theorem dX8_name_23 : decode cX8_name 23 = .ok (.aload_n 0, 1) := dk_42 (dk_at dksX8_name_0 23 rfl rfl)
theorem dX8_name_24 : decode cX8_name 24 = .ok (.bipush 110, 2) := dk_16 110 (dk_at dksX8_name_1 0 rfl rfl)
theorem dX8_name_26 : decode cX8_name 26 = .ok (.bipush 116, 2) := dk_16 116 (dk_at dksX8_name_1 2 rfl rfl)
theorem dX8_name_28 : decode cX8_name 28 = .ok (.bipush 104, 2) := dk_16 104 (dk_at dksX8_name_1 4 rfl rfl)
theorem dX8_name_30 : decode cX8_name 30 = .ok (.iconst 0, 1) := dk_3 (dk_at dksX8_name_1 6 rfl rfl)
theorem dX8_name_31 : decode cX8_name 31 = .ok (.iconst 0, 1) := dk_3 (dk_at dksX8_name_1 7 rfl rfl)
theorem dX8_name_32 : decode cX8_name 32 = .ok (.iconst 0, 1) := dk_3 (dk_at dksX8_name_1 8 rfl rfl)
theorem dX8_name_33 : decode cX8_name 33 = .ok (.iconst 0, 1) := dk_3 (dk_at dksX8_name_1 9 rfl rfl)
theorem dX8_name_34 : decode cX8_name 34 = .ok (.iconst 0, 1) := dk_3 (dk_at dksX8_name_1 10 rfl rfl)
theorem dX8_name_35 : decode cX8_name 35 = .ok (.invokevirtual 205, 3) := dk_182 0 205 (dk_at dksX8_name_1 11 rfl rfl)
theorem dX8_name_38 : decode cX8_name 38 = .ok (.ifCond .eq 8, 3) := dk_153 0 8 (dk_at dksX8_name_1 14 rfl rfl)
theorem dX8_name_41 : decode cX8_name 41 = .ok (.aload_n 0, 1) := dk_42 (dk_at dksX8_name_1 17 rfl rfl)
theorem dX8_name_42 : decode cX8_name 42 = .ok (.getfield 212, 3) := dk_180 0 212 (dk_at dksX8_name_1 18 rfl rfl)
theorem dX8_name_45 : decode cX8_name 45 = .ok (.ireturn, 1) := dk_172 (dk_at dksX8_name_1 21 rfl rfl)
theorem dX8_name_46 : decode cX8_name 46 = .ok (.aload_n 0, 1) := dk_42 (dk_at dksX8_name_1 22 rfl rfl)
theorem dX8_name_47 : decode cX8_name 47 = .ok (.bipush 110, 2) := dk_16 110 (dk_at dksX8_name_2 0 rfl rfl)
theorem dX8_name_49 : decode cX8_name 49 = .ok (.bipush 117, 2) := dk_16 117 (dk_at dksX8_name_2 2 rfl rfl)
theorem dX8_name_51 : decode cX8_name 51 = .ok (.bipush 109, 2) := dk_16 109 (dk_at dksX8_name_2 4 rfl rfl)
theorem dX8_name_53 : decode cX8_name 53 = .ok (.bipush 98, 2) := dk_16 98 (dk_at dksX8_name_2 6 rfl rfl)
theorem dX8_name_55 : decode cX8_name 55 = .ok (.bipush 101, 2) := dk_16 101 (dk_at dksX8_name_2 8 rfl rfl)
theorem dX8_name_57 : decode cX8_name 57 = .ok (.bipush 114, 2) := dk_16 114 (dk_at dksX8_name_2 10 rfl rfl)
theorem dX8_name_59 : decode cX8_name 59 = .ok (.iconst 0, 1) := dk_3 (dk_at dksX8_name_2 12 rfl rfl)
theorem dX8_name_60 : decode cX8_name 60 = .ok (.iconst 0, 1) := dk_3 (dk_at dksX8_name_2 13 rfl rfl)
theorem dX8_name_61 : decode cX8_name 61 = .ok (.invokevirtual 205, 3) := dk_182 0 205 (dk_at dksX8_name_2 14 rfl rfl)
theorem dX8_name_64 : decode cX8_name 64 = .ok (.ifCond .eq 8, 3) := dk_153 0 8 (dk_at dksX8_name_2 17 rfl rfl)
theorem dX8_name_67 : decode cX8_name 67 = .ok (.aload_n 0, 1) := dk_42 (dk_at dksX8_name_2 20 rfl rfl)
theorem dX8_name_68 : decode cX8_name 68 = .ok (.getfield 215, 3) := dk_180 0 215 (dk_at dksX8_name_2 21 rfl rfl)
theorem dX8_name_71 : decode cX8_name 71 = .ok (.ireturn, 1) := dk_172 (dk_at dksX8_name_3 0 rfl rfl)
theorem dX8_name_72 : decode cX8_name 72 = .ok (.aload_n 0, 1) := dk_42 (dk_at dksX8_name_3 1 rfl rfl)
theorem dX8_name_73 : decode cX8_name 73 = .ok (.bipush 110, 2) := dk_16 110 (dk_at dksX8_name_3 2 rfl rfl)
theorem dX8_name_75 : decode cX8_name 75 = .ok (.bipush 105, 2) := dk_16 105 (dk_at dksX8_name_3 4 rfl rfl)
theorem dX8_name_77 : decode cX8_name 77 = .ok (.bipush 103, 2) := dk_16 103 (dk_at dksX8_name_3 6 rfl rfl)
theorem dX8_name_79 : decode cX8_name 79 = .ok (.bipush 104, 2) := dk_16 104 (dk_at dksX8_name_3 8 rfl rfl)
theorem dX8_name_81 : decode cX8_name 81 = .ok (.bipush 116, 2) := dk_16 116 (dk_at dksX8_name_3 10 rfl rfl)
theorem dX8_name_83 : decode cX8_name 83 = .ok (.iconst 0, 1) := dk_3 (dk_at dksX8_name_3 12 rfl rfl)
theorem dX8_name_84 : decode cX8_name 84 = .ok (.iconst 0, 1) := dk_3 (dk_at dksX8_name_3 13 rfl rfl)
theorem dX8_name_85 : decode cX8_name 85 = .ok (.iconst 0, 1) := dk_3 (dk_at dksX8_name_3 14 rfl rfl)
theorem dX8_name_86 : decode cX8_name 86 = .ok (.invokevirtual 205, 3) := dk_182 0 205 (dk_at dksX8_name_3 15 rfl rfl)
theorem dX8_name_89 : decode cX8_name 89 = .ok (.ifCond .eq 8, 3) := dk_153 0 8 (dk_at dksX8_name_3 18 rfl rfl)
theorem dX8_name_92 : decode cX8_name 92 = .ok (.aload_n 0, 1) := dk_42 (dk_at dksX8_name_3 21 rfl rfl)
theorem dX8_name_93 : decode cX8_name 93 = .ok (.getfield 218, 3) := dk_180 0 218 (dk_at dksX8_name_4 0 rfl rfl)
theorem dX8_name_96 : decode cX8_name 96 = .ok (.ireturn, 1) := dk_172 (dk_at dksX8_name_4 3 rfl rfl)
theorem dX8_name_97 : decode cX8_name 97 = .ok (.aload_n 0, 1) := dk_42 (dk_at dksX8_name_4 4 rfl rfl)
theorem dX8_name_98 : decode cX8_name 98 = .ok (.bipush 97, 2) := dk_16 97 (dk_at dksX8_name_4 5 rfl rfl)
theorem dX8_name_100 : decode cX8_name 100 = .ok (.bipush 112, 2) := dk_16 112 (dk_at dksX8_name_4 7 rfl rfl)
theorem dX8_name_102 : decode cX8_name 102 = .ok (.bipush 114, 2) := dk_16 114 (dk_at dksX8_name_4 9 rfl rfl)
theorem dX8_name_104 : decode cX8_name 104 = .ok (.bipush 111, 2) := dk_16 111 (dk_at dksX8_name_4 11 rfl rfl)
theorem dX8_name_106 : decode cX8_name 106 = .ok (.bipush 110, 2) := dk_16 110 (dk_at dksX8_name_4 13 rfl rfl)
theorem dX8_name_108 : decode cX8_name 108 = .ok (.iconst 0, 1) := dk_3 (dk_at dksX8_name_4 15 rfl rfl)
theorem dX8_name_109 : decode cX8_name 109 = .ok (.iconst 0, 1) := dk_3 (dk_at dksX8_name_4 16 rfl rfl)
theorem dX8_name_110 : decode cX8_name 110 = .ok (.iconst 0, 1) := dk_3 (dk_at dksX8_name_4 17 rfl rfl)
theorem dX8_name_111 : decode cX8_name 111 = .ok (.invokevirtual 205, 3) := dk_182 0 205 (dk_at dksX8_name_4 18 rfl rfl)
theorem dX8_name_114 : decode cX8_name 114 = .ok (.ifCond .eq 8, 3) := dk_153 0 8 (dk_at dksX8_name_4 21 rfl rfl)
theorem dX8_name_117 : decode cX8_name 117 = .ok (.aload_n 0, 1) := dk_42 (dk_at dksX8_name_5 0 rfl rfl)
theorem dX8_name_118 : decode cX8_name 118 = .ok (.getfield 221, 3) := dk_180 0 221 (dk_at dksX8_name_5 1 rfl rfl)
theorem dX8_name_121 : decode cX8_name 121 = .ok (.ireturn, 1) := dk_172 (dk_at dksX8_name_5 4 rfl rfl)
theorem dX8_name_122 : decode cX8_name 122 = .ok (.aload_n 0, 1) := dk_42 (dk_at dksX8_name_5 5 rfl rfl)
theorem dX8_name_123 : decode cX8_name 123 = .ok (.bipush 114, 2) := dk_16 114 (dk_at dksX8_name_5 6 rfl rfl)
theorem dX8_name_125 : decode cX8_name 125 = .ok (.bipush 111, 2) := dk_16 111 (dk_at dksX8_name_5 8 rfl rfl)
theorem dX8_name_127 : decode cX8_name 127 = .ok (.bipush 119, 2) := dk_16 119 (dk_at dksX8_name_5 10 rfl rfl)
theorem dX8_name_129 : decode cX8_name 129 = .ok (.iconst 0, 1) := dk_3 (dk_at dksX8_name_5 12 rfl rfl)
theorem dX8_name_130 : decode cX8_name 130 = .ok (.iconst 0, 1) := dk_3 (dk_at dksX8_name_5 13 rfl rfl)
theorem dX8_name_131 : decode cX8_name 131 = .ok (.iconst 0, 1) := dk_3 (dk_at dksX8_name_5 14 rfl rfl)
theorem dX8_name_132 : decode cX8_name 132 = .ok (.iconst 0, 1) := dk_3 (dk_at dksX8_name_5 15 rfl rfl)
theorem dX8_name_133 : decode cX8_name 133 = .ok (.iconst 0, 1) := dk_3 (dk_at dksX8_name_5 16 rfl rfl)
theorem dX8_name_134 : decode cX8_name 134 = .ok (.invokevirtual 205, 3) := dk_182 0 205 (dk_at dksX8_name_5 17 rfl rfl)
theorem dX8_name_137 : decode cX8_name 137 = .ok (.ifCond .eq 8, 3) := dk_153 0 8 (dk_at dksX8_name_5 20 rfl rfl)
theorem dX8_name_140 : decode cX8_name 140 = .ok (.aload_n 0, 1) := dk_42 (dk_at dksX8_name_5 23 rfl rfl)
theorem dX8_name_141 : decode cX8_name 141 = .ok (.getfield 224, 3) := dk_180 0 224 (dk_at dksX8_name_6 0 rfl rfl)
theorem dX8_name_144 : decode cX8_name 144 = .ok (.ireturn, 1) := dk_172 (dk_at dksX8_name_6 3 rfl rfl)
theorem dX8_name_145 : decode cX8_name 145 = .ok (.aload_n 0, 1) := dk_42 (dk_at dksX8_name_6 4 rfl rfl)
theorem dX8_name_146 : decode cX8_name 146 = .ok (.invokevirtual 199, 3) := dk_182 0 199 (dk_at dksX8_name_6 5 rfl rfl)
theorem dX8_name_149 : decode cX8_name 149 = .ok (.iconst 0, 1) := dk_3 (dk_at dksX8_name_6 8 rfl rfl)
theorem dX8_name_150 : decode cX8_name 150 = .ok (.ireturn, 1) := dk_172 (dk_at dksX8_name_6 9 rfl rfl)
abbrev cX8_within : ByteArray := prog_16_method_3_code
def yX8_within : MethodName := ⟨RX8, "within", "(III)I"⟩
def dkwX8_within_0 : List UInt8 := [26, 27, 162, 0, 7, 27, 167, 0, 13, 26, 28, 164, 0, 7, 28, 167, 0, 4, 26, 172]
abbrev dktX8_within_0 : List UInt8 := dkwX8_within_0 ++ []
theorem dksX8_within_0 : cX8_within.data.toList.drop 0 = dktX8_within_0 := by decide +kernel
theorem dX8_within_0 : decode cX8_within 0 = .ok (.iload_n 0, 1) := dk_26 (dk_at dksX8_within_0 0 rfl rfl)
theorem dX8_within_1 : decode cX8_within 1 = .ok (.iload_n 1, 1) := dk_27 (dk_at dksX8_within_0 1 rfl rfl)
theorem dX8_within_2 : decode cX8_within 2 = .ok (.if_icmp .ge 7, 3) := dk_162 0 7 (dk_at dksX8_within_0 2 rfl rfl)
theorem dX8_within_5 : decode cX8_within 5 = .ok (.iload_n 1, 1) := dk_27 (dk_at dksX8_within_0 5 rfl rfl)
theorem dX8_within_6 : decode cX8_within 6 = .ok (.goto 13, 3) := dk_167 0 13 (dk_at dksX8_within_0 6 rfl rfl)
theorem dX8_within_9 : decode cX8_within 9 = .ok (.iload_n 0, 1) := dk_26 (dk_at dksX8_within_0 9 rfl rfl)
theorem dX8_within_10 : decode cX8_within 10 = .ok (.iload_n 2, 1) := dk_28 (dk_at dksX8_within_0 10 rfl rfl)
theorem dX8_within_11 : decode cX8_within 11 = .ok (.if_icmp .le 7, 3) := dk_164 0 7 (dk_at dksX8_within_0 11 rfl rfl)
theorem dX8_within_14 : decode cX8_within 14 = .ok (.iload_n 2, 1) := dk_28 (dk_at dksX8_within_0 14 rfl rfl)
theorem dX8_within_15 : decode cX8_within 15 = .ok (.goto 4, 3) := dk_167 0 4 (dk_at dksX8_within_0 15 rfl rfl)
theorem dX8_within_18 : decode cX8_within 18 = .ok (.iload_n 0, 1) := dk_26 (dk_at dksX8_within_0 18 rfl rfl)
theorem dX8_within_19 : decode cX8_within 19 = .ok (.ireturn, 1) := dk_172 (dk_at dksX8_within_0 19 rfl rfl)
abbrev cX8_runsOf : ByteArray := prog_16_method_40_code
def yX8_runsOf : MethodName := ⟨RX8, "runsOf", "(I)I"⟩
def dkwX8_runsOf_3 : List UInt8 := [100, 92, 46, 4, 96, 79, 132, 3, 1, 167, 255, 181, 28, 172]
abbrev dktX8_runsOf_3 : List UInt8 := dkwX8_runsOf_3 ++ []
def dkwX8_runsOf_2 : List UInt8 := [180, 0, 38, 28, 3, 79, 132, 2, 1, 42, 27, 29, 182, 1, 19, 153, 0, 15, 42, 180, 0, 38, 28, 4]
abbrev dktX8_runsOf_2 : List UInt8 := dkwX8_runsOf_2 ++ dktX8_runsOf_3
def dkwX8_runsOf_1 : List UInt8 := [153, 0, 14, 42, 27, 29, 4, 100, 182, 1, 19, 154, 0, 20, 42, 180, 0, 35, 28, 29, 79, 42]
abbrev dktX8_runsOf_1 : List UInt8 := dkwX8_runsOf_1 ++ dktX8_runsOf_2
def dkwX8_runsOf_0 : List UInt8 := [3, 61, 3, 62, 29, 42, 180, 0, 26, 27, 46, 162, 0, 71, 42, 27, 29, 182, 1, 19, 153, 0, 35, 29]
abbrev dktX8_runsOf_0 : List UInt8 := dkwX8_runsOf_0 ++ dktX8_runsOf_1
theorem dksX8_runsOf_0 : cX8_runsOf.data.toList.drop 0 = dktX8_runsOf_0 := by decide +kernel
theorem dksX8_runsOf_1 : cX8_runsOf.data.toList.drop 24 = dktX8_runsOf_1 := dk_seg dksX8_runsOf_0 24 rfl rfl
theorem dksX8_runsOf_2 : cX8_runsOf.data.toList.drop 46 = dktX8_runsOf_2 := dk_seg dksX8_runsOf_1 22 rfl rfl
theorem dksX8_runsOf_3 : cX8_runsOf.data.toList.drop 70 = dktX8_runsOf_3 := dk_seg dksX8_runsOf_2 24 rfl rfl
theorem dX8_runsOf_0 : decode cX8_runsOf 0 = .ok (.iconst 0, 1) := dk_3 (dk_at dksX8_runsOf_0 0 rfl rfl)
theorem dX8_runsOf_1 : decode cX8_runsOf 1 = .ok (.istore_n 2, 1) := dk_61 (dk_at dksX8_runsOf_0 1 rfl rfl)
theorem dX8_runsOf_2 : decode cX8_runsOf 2 = .ok (.iconst 0, 1) := dk_3 (dk_at dksX8_runsOf_0 2 rfl rfl)
theorem dX8_runsOf_3 : decode cX8_runsOf 3 = .ok (.istore_n 3, 1) := dk_62 (dk_at dksX8_runsOf_0 3 rfl rfl)
theorem dX8_runsOf_4 : decode cX8_runsOf 4 = .ok (.iload_n 3, 1) := dk_29 (dk_at dksX8_runsOf_0 4 rfl rfl)
theorem dX8_runsOf_5 : decode cX8_runsOf 5 = .ok (.aload_n 0, 1) := dk_42 (dk_at dksX8_runsOf_0 5 rfl rfl)
theorem dX8_runsOf_6 : decode cX8_runsOf 6 = .ok (.getfield 26, 3) := dk_180 0 26 (dk_at dksX8_runsOf_0 6 rfl rfl)
theorem dX8_runsOf_9 : decode cX8_runsOf 9 = .ok (.iload_n 1, 1) := dk_27 (dk_at dksX8_runsOf_0 9 rfl rfl)
theorem dX8_runsOf_10 : decode cX8_runsOf 10 = .ok (.iaload, 1) := dk_46 (dk_at dksX8_runsOf_0 10 rfl rfl)
theorem dX8_runsOf_11 : decode cX8_runsOf 11 = .ok (.if_icmp .ge 71, 3) := dk_162 0 71 (dk_at dksX8_runsOf_0 11 rfl rfl)
theorem dX8_runsOf_14 : decode cX8_runsOf 14 = .ok (.aload_n 0, 1) := dk_42 (dk_at dksX8_runsOf_0 14 rfl rfl)
theorem dX8_runsOf_15 : decode cX8_runsOf 15 = .ok (.iload_n 1, 1) := dk_27 (dk_at dksX8_runsOf_0 15 rfl rfl)
theorem dX8_runsOf_16 : decode cX8_runsOf 16 = .ok (.iload_n 3, 1) := dk_29 (dk_at dksX8_runsOf_0 16 rfl rfl)
theorem dX8_runsOf_17 : decode cX8_runsOf 17 = .ok (.invokevirtual 275, 3) := dk_182 1 19 (dk_at dksX8_runsOf_0 17 rfl rfl)
theorem dX8_runsOf_20 : decode cX8_runsOf 20 = .ok (.ifCond .eq 35, 3) := dk_153 0 35 (dk_at dksX8_runsOf_0 20 rfl rfl)
theorem dX8_runsOf_23 : decode cX8_runsOf 23 = .ok (.iload_n 3, 1) := dk_29 (dk_at dksX8_runsOf_0 23 rfl rfl)
theorem dX8_runsOf_24 : decode cX8_runsOf 24 = .ok (.ifCond .eq 14, 3) := dk_153 0 14 (dk_at dksX8_runsOf_1 0 rfl rfl)
theorem dX8_runsOf_27 : decode cX8_runsOf 27 = .ok (.aload_n 0, 1) := dk_42 (dk_at dksX8_runsOf_1 3 rfl rfl)
theorem dX8_runsOf_28 : decode cX8_runsOf 28 = .ok (.iload_n 1, 1) := dk_27 (dk_at dksX8_runsOf_1 4 rfl rfl)
theorem dX8_runsOf_29 : decode cX8_runsOf 29 = .ok (.iload_n 3, 1) := dk_29 (dk_at dksX8_runsOf_1 5 rfl rfl)
theorem dX8_runsOf_30 : decode cX8_runsOf 30 = .ok (.iconst 1, 1) := dk_4 (dk_at dksX8_runsOf_1 6 rfl rfl)
theorem dX8_runsOf_31 : decode cX8_runsOf 31 = .ok (.isub, 1) := dk_100 (dk_at dksX8_runsOf_1 7 rfl rfl)
theorem dX8_runsOf_32 : decode cX8_runsOf 32 = .ok (.invokevirtual 275, 3) := dk_182 1 19 (dk_at dksX8_runsOf_1 8 rfl rfl)
theorem dX8_runsOf_35 : decode cX8_runsOf 35 = .ok (.ifCond .ne 20, 3) := dk_154 0 20 (dk_at dksX8_runsOf_1 11 rfl rfl)
theorem dX8_runsOf_38 : decode cX8_runsOf 38 = .ok (.aload_n 0, 1) := dk_42 (dk_at dksX8_runsOf_1 14 rfl rfl)
theorem dX8_runsOf_39 : decode cX8_runsOf 39 = .ok (.getfield 35, 3) := dk_180 0 35 (dk_at dksX8_runsOf_1 15 rfl rfl)
theorem dX8_runsOf_42 : decode cX8_runsOf 42 = .ok (.iload_n 2, 1) := dk_28 (dk_at dksX8_runsOf_1 18 rfl rfl)
theorem dX8_runsOf_43 : decode cX8_runsOf 43 = .ok (.iload_n 3, 1) := dk_29 (dk_at dksX8_runsOf_1 19 rfl rfl)
theorem dX8_runsOf_44 : decode cX8_runsOf 44 = .ok (.iastore, 1) := dk_79 (dk_at dksX8_runsOf_1 20 rfl rfl)
theorem dX8_runsOf_45 : decode cX8_runsOf 45 = .ok (.aload_n 0, 1) := dk_42 (dk_at dksX8_runsOf_1 21 rfl rfl)
theorem dX8_runsOf_46 : decode cX8_runsOf 46 = .ok (.getfield 38, 3) := dk_180 0 38 (dk_at dksX8_runsOf_2 0 rfl rfl)
theorem dX8_runsOf_49 : decode cX8_runsOf 49 = .ok (.iload_n 2, 1) := dk_28 (dk_at dksX8_runsOf_2 3 rfl rfl)
theorem dX8_runsOf_50 : decode cX8_runsOf 50 = .ok (.iconst 0, 1) := dk_3 (dk_at dksX8_runsOf_2 4 rfl rfl)
theorem dX8_runsOf_51 : decode cX8_runsOf 51 = .ok (.iastore, 1) := dk_79 (dk_at dksX8_runsOf_2 5 rfl rfl)
theorem dX8_runsOf_52 : decode cX8_runsOf 52 = .ok (.iinc 2 1, 3) := dk_132 2 1 (dk_at dksX8_runsOf_2 6 rfl rfl)
theorem dX8_runsOf_55 : decode cX8_runsOf 55 = .ok (.aload_n 0, 1) := dk_42 (dk_at dksX8_runsOf_2 9 rfl rfl)
theorem dX8_runsOf_56 : decode cX8_runsOf 56 = .ok (.iload_n 1, 1) := dk_27 (dk_at dksX8_runsOf_2 10 rfl rfl)
theorem dX8_runsOf_57 : decode cX8_runsOf 57 = .ok (.iload_n 3, 1) := dk_29 (dk_at dksX8_runsOf_2 11 rfl rfl)
theorem dX8_runsOf_58 : decode cX8_runsOf 58 = .ok (.invokevirtual 275, 3) := dk_182 1 19 (dk_at dksX8_runsOf_2 12 rfl rfl)
theorem dX8_runsOf_61 : decode cX8_runsOf 61 = .ok (.ifCond .eq 15, 3) := dk_153 0 15 (dk_at dksX8_runsOf_2 15 rfl rfl)
theorem dX8_runsOf_64 : decode cX8_runsOf 64 = .ok (.aload_n 0, 1) := dk_42 (dk_at dksX8_runsOf_2 18 rfl rfl)
theorem dX8_runsOf_65 : decode cX8_runsOf 65 = .ok (.getfield 38, 3) := dk_180 0 38 (dk_at dksX8_runsOf_2 19 rfl rfl)
theorem dX8_runsOf_68 : decode cX8_runsOf 68 = .ok (.iload_n 2, 1) := dk_28 (dk_at dksX8_runsOf_2 22 rfl rfl)
theorem dX8_runsOf_69 : decode cX8_runsOf 69 = .ok (.iconst 1, 1) := dk_4 (dk_at dksX8_runsOf_2 23 rfl rfl)
theorem dX8_runsOf_70 : decode cX8_runsOf 70 = .ok (.isub, 1) := dk_100 (dk_at dksX8_runsOf_3 0 rfl rfl)
theorem dX8_runsOf_71 : decode cX8_runsOf 71 = .ok (.dup2, 1) := dk_92 (dk_at dksX8_runsOf_3 1 rfl rfl)
theorem dX8_runsOf_72 : decode cX8_runsOf 72 = .ok (.iaload, 1) := dk_46 (dk_at dksX8_runsOf_3 2 rfl rfl)
theorem dX8_runsOf_73 : decode cX8_runsOf 73 = .ok (.iconst 1, 1) := dk_4 (dk_at dksX8_runsOf_3 3 rfl rfl)
theorem dX8_runsOf_74 : decode cX8_runsOf 74 = .ok (.iadd, 1) := dk_96 (dk_at dksX8_runsOf_3 4 rfl rfl)
theorem dX8_runsOf_75 : decode cX8_runsOf 75 = .ok (.iastore, 1) := dk_79 (dk_at dksX8_runsOf_3 5 rfl rfl)
theorem dX8_runsOf_76 : decode cX8_runsOf 76 = .ok (.iinc 3 1, 3) := dk_132 3 1 (dk_at dksX8_runsOf_3 6 rfl rfl)
theorem dX8_runsOf_79 : decode cX8_runsOf 79 = .ok (.goto (-75), 3) := dk_167 255 181 (dk_at dksX8_runsOf_3 9 rfl rfl)
theorem dX8_runsOf_82 : decode cX8_runsOf 82 = .ok (.iload_n 2, 1) := dk_28 (dk_at dksX8_runsOf_3 12 rfl rfl)
theorem dX8_runsOf_83 : decode cX8_runsOf 83 = .ok (.ireturn, 1) := dk_172 (dk_at dksX8_runsOf_3 13 rfl rfl)
abbrev cX8_isGap : ByteArray := prog_16_method_39_code
def yX8_isGap : MethodName := ⟨RX8, "isGap", "(II)Z"⟩
def dkwX8_isGap_1 : List UInt8 := [167, 0, 4, 3, 172]
abbrev dktX8_isGap_1 : List UInt8 := dkwX8_isGap_1 ++ []
def dkwX8_isGap_0 : List UInt8 := [28, 42, 180, 0, 26, 27, 46, 162, 0, 20, 42, 180, 0, 23, 27, 46, 28, 122, 4, 126, 154, 0, 7, 4]
abbrev dktX8_isGap_0 : List UInt8 := dkwX8_isGap_0 ++ dktX8_isGap_1
theorem dksX8_isGap_0 : cX8_isGap.data.toList.drop 0 = dktX8_isGap_0 := by decide +kernel
theorem dksX8_isGap_1 : cX8_isGap.data.toList.drop 24 = dktX8_isGap_1 := dk_seg dksX8_isGap_0 24 rfl rfl
theorem dX8_isGap_0 : decode cX8_isGap 0 = .ok (.iload_n 2, 1) := dk_28 (dk_at dksX8_isGap_0 0 rfl rfl)
theorem dX8_isGap_1 : decode cX8_isGap 1 = .ok (.aload_n 0, 1) := dk_42 (dk_at dksX8_isGap_0 1 rfl rfl)
theorem dX8_isGap_2 : decode cX8_isGap 2 = .ok (.getfield 26, 3) := dk_180 0 26 (dk_at dksX8_isGap_0 2 rfl rfl)
theorem dX8_isGap_5 : decode cX8_isGap 5 = .ok (.iload_n 1, 1) := dk_27 (dk_at dksX8_isGap_0 5 rfl rfl)
theorem dX8_isGap_6 : decode cX8_isGap 6 = .ok (.iaload, 1) := dk_46 (dk_at dksX8_isGap_0 6 rfl rfl)
theorem dX8_isGap_7 : decode cX8_isGap 7 = .ok (.if_icmp .ge 20, 3) := dk_162 0 20 (dk_at dksX8_isGap_0 7 rfl rfl)
theorem dX8_isGap_10 : decode cX8_isGap 10 = .ok (.aload_n 0, 1) := dk_42 (dk_at dksX8_isGap_0 10 rfl rfl)
theorem dX8_isGap_11 : decode cX8_isGap 11 = .ok (.getfield 23, 3) := dk_180 0 23 (dk_at dksX8_isGap_0 11 rfl rfl)
theorem dX8_isGap_14 : decode cX8_isGap 14 = .ok (.iload_n 1, 1) := dk_27 (dk_at dksX8_isGap_0 14 rfl rfl)
theorem dX8_isGap_15 : decode cX8_isGap 15 = .ok (.iaload, 1) := dk_46 (dk_at dksX8_isGap_0 15 rfl rfl)
theorem dX8_isGap_16 : decode cX8_isGap 16 = .ok (.iload_n 2, 1) := dk_28 (dk_at dksX8_isGap_0 16 rfl rfl)
theorem dX8_isGap_17 : decode cX8_isGap 17 = .ok (.ishr, 1) := dk_122 (dk_at dksX8_isGap_0 17 rfl rfl)
theorem dX8_isGap_18 : decode cX8_isGap 18 = .ok (.iconst 1, 1) := dk_4 (dk_at dksX8_isGap_0 18 rfl rfl)
theorem dX8_isGap_19 : decode cX8_isGap 19 = .ok (.iand, 1) := dk_126 (dk_at dksX8_isGap_0 19 rfl rfl)
theorem dX8_isGap_20 : decode cX8_isGap 20 = .ok (.ifCond .ne 7, 3) := dk_154 0 7 (dk_at dksX8_isGap_0 20 rfl rfl)
theorem dX8_isGap_23 : decode cX8_isGap 23 = .ok (.iconst 1, 1) := dk_4 (dk_at dksX8_isGap_0 23 rfl rfl)
theorem dX8_isGap_24 : decode cX8_isGap 24 = .ok (.goto 4, 3) := dk_167 0 4 (dk_at dksX8_isGap_1 0 rfl rfl)
theorem dX8_isGap_27 : decode cX8_isGap 27 = .ok (.iconst 0, 1) := dk_3 (dk_at dksX8_isGap_1 3 rfl rfl)
theorem dX8_isGap_28 : decode cX8_isGap 28 = .ok (.ireturn, 1) := dk_172 (dk_at dksX8_isGap_1 4 rfl rfl)
abbrev cX8_greatestOf : ByteArray := prog_16_method_41_code
def yX8_greatestOf : MethodName := ⟨RX8, "greatestOf", "(I)I"⟩
def dkwX8_greatestOf_1 : List UInt8 := [29, 164, 0, 13, 42, 180, 0, 38, 21, 4, 46, 167, 0, 4, 29, 62, 132, 4, 1, 167, 255, 224, 29, 172]
abbrev dktX8_greatestOf_1 : List UInt8 := dkwX8_greatestOf_1 ++ []
def dkwX8_greatestOf_0 : List UInt8 := [42, 27, 182, 0, 141, 61, 3, 62, 3, 54, 4, 21, 4, 28, 162, 0, 32, 42, 180, 0, 38, 21, 4, 46]
abbrev dktX8_greatestOf_0 : List UInt8 := dkwX8_greatestOf_0 ++ dktX8_greatestOf_1
theorem dksX8_greatestOf_0 : cX8_greatestOf.data.toList.drop 0 = dktX8_greatestOf_0 := by decide +kernel
theorem dksX8_greatestOf_1 : cX8_greatestOf.data.toList.drop 24 = dktX8_greatestOf_1 := dk_seg dksX8_greatestOf_0 24 rfl rfl
theorem dX8_greatestOf_0 : decode cX8_greatestOf 0 = .ok (.aload_n 0, 1) := dk_42 (dk_at dksX8_greatestOf_0 0 rfl rfl)
theorem dX8_greatestOf_1 : decode cX8_greatestOf 1 = .ok (.iload_n 1, 1) := dk_27 (dk_at dksX8_greatestOf_0 1 rfl rfl)
theorem dX8_greatestOf_2 : decode cX8_greatestOf 2 = .ok (.invokevirtual 141, 3) := dk_182 0 141 (dk_at dksX8_greatestOf_0 2 rfl rfl)
theorem dX8_greatestOf_5 : decode cX8_greatestOf 5 = .ok (.istore_n 2, 1) := dk_61 (dk_at dksX8_greatestOf_0 5 rfl rfl)
theorem dX8_greatestOf_6 : decode cX8_greatestOf 6 = .ok (.iconst 0, 1) := dk_3 (dk_at dksX8_greatestOf_0 6 rfl rfl)
theorem dX8_greatestOf_7 : decode cX8_greatestOf 7 = .ok (.istore_n 3, 1) := dk_62 (dk_at dksX8_greatestOf_0 7 rfl rfl)
theorem dX8_greatestOf_8 : decode cX8_greatestOf 8 = .ok (.iconst 0, 1) := dk_3 (dk_at dksX8_greatestOf_0 8 rfl rfl)
theorem dX8_greatestOf_9 : decode cX8_greatestOf 9 = .ok (.istore 4, 2) := dk_54 4 (dk_at dksX8_greatestOf_0 9 rfl rfl)
theorem dX8_greatestOf_11 : decode cX8_greatestOf 11 = .ok (.iload 4, 2) := dk_21 4 (dk_at dksX8_greatestOf_0 11 rfl rfl)
theorem dX8_greatestOf_13 : decode cX8_greatestOf 13 = .ok (.iload_n 2, 1) := dk_28 (dk_at dksX8_greatestOf_0 13 rfl rfl)
theorem dX8_greatestOf_14 : decode cX8_greatestOf 14 = .ok (.if_icmp .ge 32, 3) := dk_162 0 32 (dk_at dksX8_greatestOf_0 14 rfl rfl)
theorem dX8_greatestOf_17 : decode cX8_greatestOf 17 = .ok (.aload_n 0, 1) := dk_42 (dk_at dksX8_greatestOf_0 17 rfl rfl)
theorem dX8_greatestOf_18 : decode cX8_greatestOf 18 = .ok (.getfield 38, 3) := dk_180 0 38 (dk_at dksX8_greatestOf_0 18 rfl rfl)
theorem dX8_greatestOf_21 : decode cX8_greatestOf 21 = .ok (.iload 4, 2) := dk_21 4 (dk_at dksX8_greatestOf_0 21 rfl rfl)
theorem dX8_greatestOf_23 : decode cX8_greatestOf 23 = .ok (.iaload, 1) := dk_46 (dk_at dksX8_greatestOf_0 23 rfl rfl)
theorem dX8_greatestOf_24 : decode cX8_greatestOf 24 = .ok (.iload_n 3, 1) := dk_29 (dk_at dksX8_greatestOf_1 0 rfl rfl)
theorem dX8_greatestOf_25 : decode cX8_greatestOf 25 = .ok (.if_icmp .le 13, 3) := dk_164 0 13 (dk_at dksX8_greatestOf_1 1 rfl rfl)
theorem dX8_greatestOf_28 : decode cX8_greatestOf 28 = .ok (.aload_n 0, 1) := dk_42 (dk_at dksX8_greatestOf_1 4 rfl rfl)
theorem dX8_greatestOf_29 : decode cX8_greatestOf 29 = .ok (.getfield 38, 3) := dk_180 0 38 (dk_at dksX8_greatestOf_1 5 rfl rfl)
theorem dX8_greatestOf_32 : decode cX8_greatestOf 32 = .ok (.iload 4, 2) := dk_21 4 (dk_at dksX8_greatestOf_1 8 rfl rfl)
theorem dX8_greatestOf_34 : decode cX8_greatestOf 34 = .ok (.iaload, 1) := dk_46 (dk_at dksX8_greatestOf_1 10 rfl rfl)
theorem dX8_greatestOf_35 : decode cX8_greatestOf 35 = .ok (.goto 4, 3) := dk_167 0 4 (dk_at dksX8_greatestOf_1 11 rfl rfl)
theorem dX8_greatestOf_38 : decode cX8_greatestOf 38 = .ok (.iload_n 3, 1) := dk_29 (dk_at dksX8_greatestOf_1 14 rfl rfl)
theorem dX8_greatestOf_39 : decode cX8_greatestOf 39 = .ok (.istore_n 3, 1) := dk_62 (dk_at dksX8_greatestOf_1 15 rfl rfl)
theorem dX8_greatestOf_40 : decode cX8_greatestOf 40 = .ok (.iinc 4 1, 3) := dk_132 4 1 (dk_at dksX8_greatestOf_1 16 rfl rfl)
theorem dX8_greatestOf_43 : decode cX8_greatestOf 43 = .ok (.goto (-32), 3) := dk_167 255 224 (dk_at dksX8_greatestOf_1 19 rfl rfl)
theorem dX8_greatestOf_46 : decode cX8_greatestOf 46 = .ok (.iload_n 3, 1) := dk_29 (dk_at dksX8_greatestOf_1 22 rfl rfl)
theorem dX8_greatestOf_47 : decode cX8_greatestOf 47 = .ok (.ireturn, 1) := dk_172 (dk_at dksX8_greatestOf_1 23 rfl rfl)
abbrev cX8_shakenOf : ByteArray := prog_16_method_38_code
def yX8_shakenOf : MethodName := ⟨RX8, "shakenOf", "(I)I"⟩
def dkwX8_shakenOf_0 : List UInt8 := [42, 5, 42, 27, 182, 0, 103, 3, 3, 3, 27, 182, 1, 15, 172]
abbrev dktX8_shakenOf_0 : List UInt8 := dkwX8_shakenOf_0 ++ []
theorem dksX8_shakenOf_0 : cX8_shakenOf.data.toList.drop 0 = dktX8_shakenOf_0 := by decide +kernel
theorem dX8_shakenOf_0 : decode cX8_shakenOf 0 = .ok (.aload_n 0, 1) := dk_42 (dk_at dksX8_shakenOf_0 0 rfl rfl)
theorem dX8_shakenOf_1 : decode cX8_shakenOf 1 = .ok (.iconst 2, 1) := dk_5 (dk_at dksX8_shakenOf_0 1 rfl rfl)
theorem dX8_shakenOf_2 : decode cX8_shakenOf 2 = .ok (.aload_n 0, 1) := dk_42 (dk_at dksX8_shakenOf_0 2 rfl rfl)
theorem dX8_shakenOf_3 : decode cX8_shakenOf 3 = .ok (.iload_n 1, 1) := dk_27 (dk_at dksX8_shakenOf_0 3 rfl rfl)
theorem dX8_shakenOf_4 : decode cX8_shakenOf 4 = .ok (.invokevirtual 103, 3) := dk_182 0 103 (dk_at dksX8_shakenOf_0 4 rfl rfl)
theorem dX8_shakenOf_7 : decode cX8_shakenOf 7 = .ok (.iconst 0, 1) := dk_3 (dk_at dksX8_shakenOf_0 7 rfl rfl)
theorem dX8_shakenOf_8 : decode cX8_shakenOf 8 = .ok (.iconst 0, 1) := dk_3 (dk_at dksX8_shakenOf_0 8 rfl rfl)
theorem dX8_shakenOf_9 : decode cX8_shakenOf 9 = .ok (.iconst 0, 1) := dk_3 (dk_at dksX8_shakenOf_0 9 rfl rfl)
theorem dX8_shakenOf_10 : decode cX8_shakenOf 10 = .ok (.iload_n 1, 1) := dk_27 (dk_at dksX8_shakenOf_0 10 rfl rfl)
theorem dX8_shakenOf_11 : decode cX8_shakenOf 11 = .ok (.invokevirtual 271, 3) := dk_182 1 15 (dk_at dksX8_shakenOf_0 11 rfl rfl)
theorem dX8_shakenOf_14 : decode cX8_shakenOf 14 = .ok (.ireturn, 1) := dk_172 (dk_at dksX8_shakenOf_0 14 rfl rfl)
abbrev cX8_lays : ByteArray := prog_16_method_13_code
def yX8_lays : MethodName := ⟨RX8, "lays", "(III)V"⟩
def dkwX8_lays_2 : List UInt8 := [42, 29, 181, 0, 129, 177]
abbrev dktX8_lays_2 : List UInt8 := dkwX8_lays_2 ++ []
def dkwX8_lays_1 : List UInt8 := [27, 96, 4, 100, 29, 79, 167, 0, 23, 27, 6, 160, 0, 13, 42, 180, 0, 29, 28, 29, 79, 167, 0, 8]
abbrev dktX8_lays_1 : List UInt8 := dkwX8_lays_1 ++ dktX8_lays_2
def dkwX8_lays_0 : List UInt8 := [27, 154, 0, 11, 42, 29, 181, 0, 126, 167, 0, 44, 27, 6, 162, 0, 19, 42, 180, 0, 32, 5, 28, 104]
abbrev dktX8_lays_0 : List UInt8 := dkwX8_lays_0 ++ dktX8_lays_1
theorem dksX8_lays_0 : cX8_lays.data.toList.drop 0 = dktX8_lays_0 := by decide +kernel
theorem dksX8_lays_1 : cX8_lays.data.toList.drop 24 = dktX8_lays_1 := dk_seg dksX8_lays_0 24 rfl rfl
theorem dksX8_lays_2 : cX8_lays.data.toList.drop 48 = dktX8_lays_2 := dk_seg dksX8_lays_1 24 rfl rfl
theorem dX8_lays_0 : decode cX8_lays 0 = .ok (.iload_n 1, 1) := dk_27 (dk_at dksX8_lays_0 0 rfl rfl)
theorem dX8_lays_1 : decode cX8_lays 1 = .ok (.ifCond .ne 11, 3) := dk_154 0 11 (dk_at dksX8_lays_0 1 rfl rfl)
theorem dX8_lays_4 : decode cX8_lays 4 = .ok (.aload_n 0, 1) := dk_42 (dk_at dksX8_lays_0 4 rfl rfl)
theorem dX8_lays_5 : decode cX8_lays 5 = .ok (.iload_n 3, 1) := dk_29 (dk_at dksX8_lays_0 5 rfl rfl)
theorem dX8_lays_6 : decode cX8_lays 6 = .ok (.putfield 126, 3) := dk_181 0 126 (dk_at dksX8_lays_0 6 rfl rfl)
theorem dX8_lays_9 : decode cX8_lays 9 = .ok (.goto 44, 3) := dk_167 0 44 (dk_at dksX8_lays_0 9 rfl rfl)
theorem dX8_lays_12 : decode cX8_lays 12 = .ok (.iload_n 1, 1) := dk_27 (dk_at dksX8_lays_0 12 rfl rfl)
theorem dX8_lays_13 : decode cX8_lays 13 = .ok (.iconst 3, 1) := dk_6 (dk_at dksX8_lays_0 13 rfl rfl)
theorem dX8_lays_14 : decode cX8_lays 14 = .ok (.if_icmp .ge 19, 3) := dk_162 0 19 (dk_at dksX8_lays_0 14 rfl rfl)
theorem dX8_lays_17 : decode cX8_lays 17 = .ok (.aload_n 0, 1) := dk_42 (dk_at dksX8_lays_0 17 rfl rfl)
theorem dX8_lays_18 : decode cX8_lays 18 = .ok (.getfield 32, 3) := dk_180 0 32 (dk_at dksX8_lays_0 18 rfl rfl)
theorem dX8_lays_21 : decode cX8_lays 21 = .ok (.iconst 2, 1) := dk_5 (dk_at dksX8_lays_0 21 rfl rfl)
theorem dX8_lays_22 : decode cX8_lays 22 = .ok (.iload_n 2, 1) := dk_28 (dk_at dksX8_lays_0 22 rfl rfl)
theorem dX8_lays_23 : decode cX8_lays 23 = .ok (.imul, 1) := dk_104 (dk_at dksX8_lays_0 23 rfl rfl)
theorem dX8_lays_24 : decode cX8_lays 24 = .ok (.iload_n 1, 1) := dk_27 (dk_at dksX8_lays_1 0 rfl rfl)
theorem dX8_lays_25 : decode cX8_lays 25 = .ok (.iadd, 1) := dk_96 (dk_at dksX8_lays_1 1 rfl rfl)
theorem dX8_lays_26 : decode cX8_lays 26 = .ok (.iconst 1, 1) := dk_4 (dk_at dksX8_lays_1 2 rfl rfl)
theorem dX8_lays_27 : decode cX8_lays 27 = .ok (.isub, 1) := dk_100 (dk_at dksX8_lays_1 3 rfl rfl)
theorem dX8_lays_28 : decode cX8_lays 28 = .ok (.iload_n 3, 1) := dk_29 (dk_at dksX8_lays_1 4 rfl rfl)
theorem dX8_lays_29 : decode cX8_lays 29 = .ok (.iastore, 1) := dk_79 (dk_at dksX8_lays_1 5 rfl rfl)
theorem dX8_lays_30 : decode cX8_lays 30 = .ok (.goto 23, 3) := dk_167 0 23 (dk_at dksX8_lays_1 6 rfl rfl)
theorem dX8_lays_33 : decode cX8_lays 33 = .ok (.iload_n 1, 1) := dk_27 (dk_at dksX8_lays_1 9 rfl rfl)
theorem dX8_lays_34 : decode cX8_lays 34 = .ok (.iconst 3, 1) := dk_6 (dk_at dksX8_lays_1 10 rfl rfl)
theorem dX8_lays_35 : decode cX8_lays 35 = .ok (.if_icmp .ne 13, 3) := dk_160 0 13 (dk_at dksX8_lays_1 11 rfl rfl)
theorem dX8_lays_38 : decode cX8_lays 38 = .ok (.aload_n 0, 1) := dk_42 (dk_at dksX8_lays_1 14 rfl rfl)
theorem dX8_lays_39 : decode cX8_lays 39 = .ok (.getfield 29, 3) := dk_180 0 29 (dk_at dksX8_lays_1 15 rfl rfl)
theorem dX8_lays_42 : decode cX8_lays 42 = .ok (.iload_n 2, 1) := dk_28 (dk_at dksX8_lays_1 18 rfl rfl)
theorem dX8_lays_43 : decode cX8_lays 43 = .ok (.iload_n 3, 1) := dk_29 (dk_at dksX8_lays_1 19 rfl rfl)
theorem dX8_lays_44 : decode cX8_lays 44 = .ok (.iastore, 1) := dk_79 (dk_at dksX8_lays_1 20 rfl rfl)
theorem dX8_lays_45 : decode cX8_lays 45 = .ok (.goto 8, 3) := dk_167 0 8 (dk_at dksX8_lays_1 21 rfl rfl)
theorem dX8_lays_48 : decode cX8_lays 48 = .ok (.aload_n 0, 1) := dk_42 (dk_at dksX8_lays_2 0 rfl rfl)
theorem dX8_lays_49 : decode cX8_lays 49 = .ok (.iload_n 3, 1) := dk_29 (dk_at dksX8_lays_2 1 rfl rfl)
theorem dX8_lays_50 : decode cX8_lays 50 = .ok (.putfield 129, 3) := dk_181 0 129 (dk_at dksX8_lays_2 2 rfl rfl)
theorem dX8_lays_53 : decode cX8_lays 53 = .ok (.return_, 1) := dk_177 (dk_at dksX8_lays_2 5 rfl rfl)
abbrev cX8_gleaner : ByteArray := prog_16_method_14_code
def yX8_gleaner : MethodName := ⟨RX8, "gleaner", "(II)I"⟩
def dkwX8_gleaner_3 : List UInt8 := [3, 79, 42, 89, 180, 0, 88, 4, 96, 181, 0, 88, 42, 180, 0, 88, 4, 100, 172]
abbrev dktX8_gleaner_3 : List UInt8 := dkwX8_gleaner_3 ++ []
def dkwX8_gleaner_2 : List UInt8 := [42, 180, 0, 32, 5, 42, 180, 0, 88, 104, 28, 79, 42, 180, 0, 32, 5, 42, 180, 0, 88, 104, 4, 96]
abbrev dktX8_gleaner_2 : List UInt8 := dkwX8_gleaner_2 ++ dktX8_gleaner_3
def dkwX8_gleaner_1 : List UInt8 := [16, 254, 172, 42, 180, 0, 88, 8, 160, 0, 6, 16, 252, 172, 42, 180, 0, 29, 42, 180, 0, 88, 27, 79]
abbrev dktX8_gleaner_1 : List UInt8 := dkwX8_gleaner_1 ++ dktX8_gleaner_2
def dkwX8_gleaner_0 : List UInt8 := [27, 133, 9, 20, 0, 132, 184, 0, 91, 153, 0, 15, 28, 133, 9, 20, 0, 134, 184, 0, 91, 154, 0, 6]
abbrev dktX8_gleaner_0 : List UInt8 := dkwX8_gleaner_0 ++ dktX8_gleaner_1
theorem dksX8_gleaner_0 : cX8_gleaner.data.toList.drop 0 = dktX8_gleaner_0 := by decide +kernel
theorem dksX8_gleaner_1 : cX8_gleaner.data.toList.drop 24 = dktX8_gleaner_1 := dk_seg dksX8_gleaner_0 24 rfl rfl
theorem dksX8_gleaner_2 : cX8_gleaner.data.toList.drop 48 = dktX8_gleaner_2 := dk_seg dksX8_gleaner_1 24 rfl rfl
theorem dksX8_gleaner_3 : cX8_gleaner.data.toList.drop 72 = dktX8_gleaner_3 := dk_seg dksX8_gleaner_2 24 rfl rfl
theorem dX8_gleaner_0 : decode cX8_gleaner 0 = .ok (.iload_n 1, 1) := dk_27 (dk_at dksX8_gleaner_0 0 rfl rfl)
theorem dX8_gleaner_1 : decode cX8_gleaner 1 = .ok (.i2l, 1) := dk_133 (dk_at dksX8_gleaner_0 1 rfl rfl)
theorem dX8_gleaner_2 : decode cX8_gleaner 2 = .ok (.lconst 0, 1) := dk_9 (dk_at dksX8_gleaner_0 2 rfl rfl)
theorem dX8_gleaner_3 : decode cX8_gleaner 3 = .ok (.ldc2_w 132, 3) := dk_20 0 132 (dk_at dksX8_gleaner_0 3 rfl rfl)
theorem dX8_gleaner_6 : decode cX8_gleaner 6 = .ok (.invokestatic 91, 3) := dk_184 0 91 (dk_at dksX8_gleaner_0 6 rfl rfl)
theorem dX8_gleaner_9 : decode cX8_gleaner 9 = .ok (.ifCond .eq 15, 3) := dk_153 0 15 (dk_at dksX8_gleaner_0 9 rfl rfl)
theorem dX8_gleaner_12 : decode cX8_gleaner 12 = .ok (.iload_n 2, 1) := dk_28 (dk_at dksX8_gleaner_0 12 rfl rfl)
theorem dX8_gleaner_13 : decode cX8_gleaner 13 = .ok (.i2l, 1) := dk_133 (dk_at dksX8_gleaner_0 13 rfl rfl)
theorem dX8_gleaner_14 : decode cX8_gleaner 14 = .ok (.lconst 0, 1) := dk_9 (dk_at dksX8_gleaner_0 14 rfl rfl)
theorem dX8_gleaner_15 : decode cX8_gleaner 15 = .ok (.ldc2_w 134, 3) := dk_20 0 134 (dk_at dksX8_gleaner_0 15 rfl rfl)
theorem dX8_gleaner_18 : decode cX8_gleaner 18 = .ok (.invokestatic 91, 3) := dk_184 0 91 (dk_at dksX8_gleaner_0 18 rfl rfl)
theorem dX8_gleaner_21 : decode cX8_gleaner 21 = .ok (.ifCond .ne 6, 3) := dk_154 0 6 (dk_at dksX8_gleaner_0 21 rfl rfl)
theorem dX8_gleaner_24 : decode cX8_gleaner 24 = .ok (.bipush (-2), 2) := dk_16 254 (dk_at dksX8_gleaner_1 0 rfl rfl)
theorem dX8_gleaner_26 : decode cX8_gleaner 26 = .ok (.ireturn, 1) := dk_172 (dk_at dksX8_gleaner_1 2 rfl rfl)
theorem dX8_gleaner_27 : decode cX8_gleaner 27 = .ok (.aload_n 0, 1) := dk_42 (dk_at dksX8_gleaner_1 3 rfl rfl)
theorem dX8_gleaner_28 : decode cX8_gleaner 28 = .ok (.getfield 88, 3) := dk_180 0 88 (dk_at dksX8_gleaner_1 4 rfl rfl)
theorem dX8_gleaner_31 : decode cX8_gleaner 31 = .ok (.iconst 5, 1) := dk_8 (dk_at dksX8_gleaner_1 7 rfl rfl)
theorem dX8_gleaner_32 : decode cX8_gleaner 32 = .ok (.if_icmp .ne 6, 3) := dk_160 0 6 (dk_at dksX8_gleaner_1 8 rfl rfl)
theorem dX8_gleaner_35 : decode cX8_gleaner 35 = .ok (.bipush (-4), 2) := dk_16 252 (dk_at dksX8_gleaner_1 11 rfl rfl)
theorem dX8_gleaner_37 : decode cX8_gleaner 37 = .ok (.ireturn, 1) := dk_172 (dk_at dksX8_gleaner_1 13 rfl rfl)
theorem dX8_gleaner_38 : decode cX8_gleaner 38 = .ok (.aload_n 0, 1) := dk_42 (dk_at dksX8_gleaner_1 14 rfl rfl)
theorem dX8_gleaner_39 : decode cX8_gleaner 39 = .ok (.getfield 29, 3) := dk_180 0 29 (dk_at dksX8_gleaner_1 15 rfl rfl)
theorem dX8_gleaner_42 : decode cX8_gleaner 42 = .ok (.aload_n 0, 1) := dk_42 (dk_at dksX8_gleaner_1 18 rfl rfl)
theorem dX8_gleaner_43 : decode cX8_gleaner 43 = .ok (.getfield 88, 3) := dk_180 0 88 (dk_at dksX8_gleaner_1 19 rfl rfl)
theorem dX8_gleaner_46 : decode cX8_gleaner 46 = .ok (.iload_n 1, 1) := dk_27 (dk_at dksX8_gleaner_1 22 rfl rfl)
theorem dX8_gleaner_47 : decode cX8_gleaner 47 = .ok (.iastore, 1) := dk_79 (dk_at dksX8_gleaner_1 23 rfl rfl)
theorem dX8_gleaner_48 : decode cX8_gleaner 48 = .ok (.aload_n 0, 1) := dk_42 (dk_at dksX8_gleaner_2 0 rfl rfl)
theorem dX8_gleaner_49 : decode cX8_gleaner 49 = .ok (.getfield 32, 3) := dk_180 0 32 (dk_at dksX8_gleaner_2 1 rfl rfl)
theorem dX8_gleaner_52 : decode cX8_gleaner 52 = .ok (.iconst 2, 1) := dk_5 (dk_at dksX8_gleaner_2 4 rfl rfl)
theorem dX8_gleaner_53 : decode cX8_gleaner 53 = .ok (.aload_n 0, 1) := dk_42 (dk_at dksX8_gleaner_2 5 rfl rfl)
theorem dX8_gleaner_54 : decode cX8_gleaner 54 = .ok (.getfield 88, 3) := dk_180 0 88 (dk_at dksX8_gleaner_2 6 rfl rfl)
theorem dX8_gleaner_57 : decode cX8_gleaner 57 = .ok (.imul, 1) := dk_104 (dk_at dksX8_gleaner_2 9 rfl rfl)
theorem dX8_gleaner_58 : decode cX8_gleaner 58 = .ok (.iload_n 2, 1) := dk_28 (dk_at dksX8_gleaner_2 10 rfl rfl)
theorem dX8_gleaner_59 : decode cX8_gleaner 59 = .ok (.iastore, 1) := dk_79 (dk_at dksX8_gleaner_2 11 rfl rfl)
theorem dX8_gleaner_60 : decode cX8_gleaner 60 = .ok (.aload_n 0, 1) := dk_42 (dk_at dksX8_gleaner_2 12 rfl rfl)
theorem dX8_gleaner_61 : decode cX8_gleaner 61 = .ok (.getfield 32, 3) := dk_180 0 32 (dk_at dksX8_gleaner_2 13 rfl rfl)
theorem dX8_gleaner_64 : decode cX8_gleaner 64 = .ok (.iconst 2, 1) := dk_5 (dk_at dksX8_gleaner_2 16 rfl rfl)
theorem dX8_gleaner_65 : decode cX8_gleaner 65 = .ok (.aload_n 0, 1) := dk_42 (dk_at dksX8_gleaner_2 17 rfl rfl)
theorem dX8_gleaner_66 : decode cX8_gleaner 66 = .ok (.getfield 88, 3) := dk_180 0 88 (dk_at dksX8_gleaner_2 18 rfl rfl)
theorem dX8_gleaner_69 : decode cX8_gleaner 69 = .ok (.imul, 1) := dk_104 (dk_at dksX8_gleaner_2 21 rfl rfl)
theorem dX8_gleaner_70 : decode cX8_gleaner 70 = .ok (.iconst 1, 1) := dk_4 (dk_at dksX8_gleaner_2 22 rfl rfl)
theorem dX8_gleaner_71 : decode cX8_gleaner 71 = .ok (.iadd, 1) := dk_96 (dk_at dksX8_gleaner_2 23 rfl rfl)
theorem dX8_gleaner_72 : decode cX8_gleaner 72 = .ok (.iconst 0, 1) := dk_3 (dk_at dksX8_gleaner_3 0 rfl rfl)
theorem dX8_gleaner_73 : decode cX8_gleaner 73 = .ok (.iastore, 1) := dk_79 (dk_at dksX8_gleaner_3 1 rfl rfl)
theorem dX8_gleaner_74 : decode cX8_gleaner 74 = .ok (.aload_n 0, 1) := dk_42 (dk_at dksX8_gleaner_3 2 rfl rfl)
theorem dX8_gleaner_75 : decode cX8_gleaner 75 = .ok (.dup, 1) := dk_89 (dk_at dksX8_gleaner_3 3 rfl rfl)
theorem dX8_gleaner_76 : decode cX8_gleaner 76 = .ok (.getfield 88, 3) := dk_180 0 88 (dk_at dksX8_gleaner_3 4 rfl rfl)
theorem dX8_gleaner_79 : decode cX8_gleaner 79 = .ok (.iconst 1, 1) := dk_4 (dk_at dksX8_gleaner_3 7 rfl rfl)
theorem dX8_gleaner_80 : decode cX8_gleaner 80 = .ok (.iadd, 1) := dk_96 (dk_at dksX8_gleaner_3 8 rfl rfl)
theorem dX8_gleaner_81 : decode cX8_gleaner 81 = .ok (.putfield 88, 3) := dk_181 0 88 (dk_at dksX8_gleaner_3 9 rfl rfl)
theorem dX8_gleaner_84 : decode cX8_gleaner 84 = .ok (.aload_n 0, 1) := dk_42 (dk_at dksX8_gleaner_3 12 rfl rfl)
theorem dX8_gleaner_85 : decode cX8_gleaner 85 = .ok (.getfield 88, 3) := dk_180 0 88 (dk_at dksX8_gleaner_3 13 rfl rfl)
theorem dX8_gleaner_88 : decode cX8_gleaner 88 = .ok (.iconst 1, 1) := dk_4 (dk_at dksX8_gleaner_3 16 rfl rfl)
theorem dX8_gleaner_89 : decode cX8_gleaner 89 = .ok (.isub, 1) := dk_100 (dk_at dksX8_gleaner_3 17 rfl rfl)
theorem dX8_gleaner_90 : decode cX8_gleaner 90 = .ok (.ireturn, 1) := dk_172 (dk_at dksX8_gleaner_3 18 rfl rfl)
abbrev cX8_feed : ByteArray := prog_16_method_16_code
def yX8_feed : MethodName := ⟨RX8, "feed", "(I)I"⟩
def dkwX8_feed_2 : List UInt8 := [181, 0, 152, 42, 180, 0, 152, 172]
abbrev dktX8_feed_2 : List UInt8 := dkwX8_feed_2 ++ []
def dkwX8_feed_1 : List UInt8 := [160, 0, 6, 16, 252, 172, 42, 180, 0, 20, 42, 180, 0, 152, 27, 79, 42, 89, 180, 0, 152, 4, 96]
abbrev dktX8_feed_1 : List UInt8 := dkwX8_feed_1 ++ dktX8_feed_2
def dkwX8_feed_0 : List UInt8 := [27, 133, 9, 20, 0, 150, 184, 0, 91, 154, 0, 6, 16, 254, 172, 42, 180, 0, 152, 17, 0, 160]
abbrev dktX8_feed_0 : List UInt8 := dkwX8_feed_0 ++ dktX8_feed_1
theorem dksX8_feed_0 : cX8_feed.data.toList.drop 0 = dktX8_feed_0 := by decide +kernel
theorem dksX8_feed_1 : cX8_feed.data.toList.drop 22 = dktX8_feed_1 := dk_seg dksX8_feed_0 22 rfl rfl
theorem dksX8_feed_2 : cX8_feed.data.toList.drop 45 = dktX8_feed_2 := dk_seg dksX8_feed_1 23 rfl rfl
theorem dX8_feed_0 : decode cX8_feed 0 = .ok (.iload_n 1, 1) := dk_27 (dk_at dksX8_feed_0 0 rfl rfl)
theorem dX8_feed_1 : decode cX8_feed 1 = .ok (.i2l, 1) := dk_133 (dk_at dksX8_feed_0 1 rfl rfl)
theorem dX8_feed_2 : decode cX8_feed 2 = .ok (.lconst 0, 1) := dk_9 (dk_at dksX8_feed_0 2 rfl rfl)
theorem dX8_feed_3 : decode cX8_feed 3 = .ok (.ldc2_w 150, 3) := dk_20 0 150 (dk_at dksX8_feed_0 3 rfl rfl)
theorem dX8_feed_6 : decode cX8_feed 6 = .ok (.invokestatic 91, 3) := dk_184 0 91 (dk_at dksX8_feed_0 6 rfl rfl)
theorem dX8_feed_9 : decode cX8_feed 9 = .ok (.ifCond .ne 6, 3) := dk_154 0 6 (dk_at dksX8_feed_0 9 rfl rfl)
theorem dX8_feed_12 : decode cX8_feed 12 = .ok (.bipush (-2), 2) := dk_16 254 (dk_at dksX8_feed_0 12 rfl rfl)
theorem dX8_feed_14 : decode cX8_feed 14 = .ok (.ireturn, 1) := dk_172 (dk_at dksX8_feed_0 14 rfl rfl)
theorem dX8_feed_15 : decode cX8_feed 15 = .ok (.aload_n 0, 1) := dk_42 (dk_at dksX8_feed_0 15 rfl rfl)
theorem dX8_feed_16 : decode cX8_feed 16 = .ok (.getfield 152, 3) := dk_180 0 152 (dk_at dksX8_feed_0 16 rfl rfl)
theorem dX8_feed_19 : decode cX8_feed 19 = .ok (.sipush 160, 3) := dk_17 0 160 (dk_at dksX8_feed_0 19 rfl rfl)
theorem dX8_feed_22 : decode cX8_feed 22 = .ok (.if_icmp .ne 6, 3) := dk_160 0 6 (dk_at dksX8_feed_1 0 rfl rfl)
theorem dX8_feed_25 : decode cX8_feed 25 = .ok (.bipush (-4), 2) := dk_16 252 (dk_at dksX8_feed_1 3 rfl rfl)
theorem dX8_feed_27 : decode cX8_feed 27 = .ok (.ireturn, 1) := dk_172 (dk_at dksX8_feed_1 5 rfl rfl)
theorem dX8_feed_28 : decode cX8_feed 28 = .ok (.aload_n 0, 1) := dk_42 (dk_at dksX8_feed_1 6 rfl rfl)
theorem dX8_feed_29 : decode cX8_feed 29 = .ok (.getfield 20, 3) := dk_180 0 20 (dk_at dksX8_feed_1 7 rfl rfl)
theorem dX8_feed_32 : decode cX8_feed 32 = .ok (.aload_n 0, 1) := dk_42 (dk_at dksX8_feed_1 10 rfl rfl)
theorem dX8_feed_33 : decode cX8_feed 33 = .ok (.getfield 152, 3) := dk_180 0 152 (dk_at dksX8_feed_1 11 rfl rfl)
theorem dX8_feed_36 : decode cX8_feed 36 = .ok (.iload_n 1, 1) := dk_27 (dk_at dksX8_feed_1 14 rfl rfl)
theorem dX8_feed_37 : decode cX8_feed 37 = .ok (.iastore, 1) := dk_79 (dk_at dksX8_feed_1 15 rfl rfl)
theorem dX8_feed_38 : decode cX8_feed 38 = .ok (.aload_n 0, 1) := dk_42 (dk_at dksX8_feed_1 16 rfl rfl)
theorem dX8_feed_39 : decode cX8_feed 39 = .ok (.dup, 1) := dk_89 (dk_at dksX8_feed_1 17 rfl rfl)
theorem dX8_feed_40 : decode cX8_feed 40 = .ok (.getfield 152, 3) := dk_180 0 152 (dk_at dksX8_feed_1 18 rfl rfl)
theorem dX8_feed_43 : decode cX8_feed 43 = .ok (.iconst 1, 1) := dk_4 (dk_at dksX8_feed_1 21 rfl rfl)
theorem dX8_feed_44 : decode cX8_feed 44 = .ok (.iadd, 1) := dk_96 (dk_at dksX8_feed_1 22 rfl rfl)
theorem dX8_feed_45 : decode cX8_feed 45 = .ok (.putfield 152, 3) := dk_181 0 152 (dk_at dksX8_feed_2 0 rfl rfl)
theorem dX8_feed_48 : decode cX8_feed 48 = .ok (.aload_n 0, 1) := dk_42 (dk_at dksX8_feed_2 3 rfl rfl)
theorem dX8_feed_49 : decode cX8_feed 49 = .ok (.getfield 152, 3) := dk_180 0 152 (dk_at dksX8_feed_2 4 rfl rfl)
theorem dX8_feed_52 : decode cX8_feed 52 = .ok (.ireturn, 1) := dk_172 (dk_at dksX8_feed_2 7 rfl rfl)
abbrev cX8_text : ByteArray := prog_16_method_33_code
def yX8_text : MethodName := ⟨RX8, "text", "()I"⟩
def dkwX8_text_4 : List UInt8 := [89, 180, 0, 85, 4, 96, 181, 0, 85, 42, 180, 0, 85, 4, 100, 172]
abbrev dktX8_text_4 : List UInt8 := dkwX8_text_4 ++ []
def dkwX8_text_3 : List UInt8 := [180, 0, 85, 3, 182, 1, 8, 60, 42, 180, 0, 185, 153, 0, 11, 16, 156, 42, 180, 0, 189, 100, 172, 42]
abbrev dktX8_text_3 : List UInt8 := dkwX8_text_3 ++ dktX8_text_4
def dkwX8_text_2 : List UInt8 := [167, 255, 224, 42, 180, 0, 17, 42, 180, 0, 85, 42, 180, 0, 152, 79, 42, 3, 181, 0, 152, 42, 42]
abbrev dktX8_text_2 : List UInt8 := dkwX8_text_2 ++ dktX8_text_3
def dkwX8_text_1 : List UInt8 := [180, 0, 13, 17, 0, 160, 42, 180, 0, 85, 104, 27, 96, 42, 180, 0, 20, 27, 46, 79, 132, 1, 1]
abbrev dktX8_text_1 : List UInt8 := dkwX8_text_1 ++ dktX8_text_2
def dkwX8_text_0 : List UInt8 := [42, 180, 0, 85, 16, 6, 160, 0, 6, 16, 252, 172, 3, 60, 27, 42, 180, 0, 152, 162, 0, 30, 42]
abbrev dktX8_text_0 : List UInt8 := dkwX8_text_0 ++ dktX8_text_1
theorem dksX8_text_0 : cX8_text.data.toList.drop 0 = dktX8_text_0 := by decide +kernel
theorem dksX8_text_1 : cX8_text.data.toList.drop 23 = dktX8_text_1 := dk_seg dksX8_text_0 23 rfl rfl
theorem dksX8_text_2 : cX8_text.data.toList.drop 46 = dktX8_text_2 := dk_seg dksX8_text_1 23 rfl rfl
theorem dksX8_text_3 : cX8_text.data.toList.drop 69 = dktX8_text_3 := dk_seg dksX8_text_2 23 rfl rfl
theorem dksX8_text_4 : cX8_text.data.toList.drop 93 = dktX8_text_4 := dk_seg dksX8_text_3 24 rfl rfl
theorem dX8_text_0 : decode cX8_text 0 = .ok (.aload_n 0, 1) := dk_42 (dk_at dksX8_text_0 0 rfl rfl)
theorem dX8_text_1 : decode cX8_text 1 = .ok (.getfield 85, 3) := dk_180 0 85 (dk_at dksX8_text_0 1 rfl rfl)
theorem dX8_text_4 : decode cX8_text 4 = .ok (.bipush 6, 2) := dk_16 6 (dk_at dksX8_text_0 4 rfl rfl)
theorem dX8_text_6 : decode cX8_text 6 = .ok (.if_icmp .ne 6, 3) := dk_160 0 6 (dk_at dksX8_text_0 6 rfl rfl)
theorem dX8_text_9 : decode cX8_text 9 = .ok (.bipush (-4), 2) := dk_16 252 (dk_at dksX8_text_0 9 rfl rfl)
theorem dX8_text_11 : decode cX8_text 11 = .ok (.ireturn, 1) := dk_172 (dk_at dksX8_text_0 11 rfl rfl)
theorem dX8_text_12 : decode cX8_text 12 = .ok (.iconst 0, 1) := dk_3 (dk_at dksX8_text_0 12 rfl rfl)
theorem dX8_text_13 : decode cX8_text 13 = .ok (.istore_n 1, 1) := dk_60 (dk_at dksX8_text_0 13 rfl rfl)
theorem dX8_text_14 : decode cX8_text 14 = .ok (.iload_n 1, 1) := dk_27 (dk_at dksX8_text_0 14 rfl rfl)
theorem dX8_text_15 : decode cX8_text 15 = .ok (.aload_n 0, 1) := dk_42 (dk_at dksX8_text_0 15 rfl rfl)
theorem dX8_text_16 : decode cX8_text 16 = .ok (.getfield 152, 3) := dk_180 0 152 (dk_at dksX8_text_0 16 rfl rfl)
theorem dX8_text_19 : decode cX8_text 19 = .ok (.if_icmp .ge 30, 3) := dk_162 0 30 (dk_at dksX8_text_0 19 rfl rfl)
theorem dX8_text_22 : decode cX8_text 22 = .ok (.aload_n 0, 1) := dk_42 (dk_at dksX8_text_0 22 rfl rfl)
theorem dX8_text_23 : decode cX8_text 23 = .ok (.getfield 13, 3) := dk_180 0 13 (dk_at dksX8_text_1 0 rfl rfl)
theorem dX8_text_26 : decode cX8_text 26 = .ok (.sipush 160, 3) := dk_17 0 160 (dk_at dksX8_text_1 3 rfl rfl)
theorem dX8_text_29 : decode cX8_text 29 = .ok (.aload_n 0, 1) := dk_42 (dk_at dksX8_text_1 6 rfl rfl)
theorem dX8_text_30 : decode cX8_text 30 = .ok (.getfield 85, 3) := dk_180 0 85 (dk_at dksX8_text_1 7 rfl rfl)
theorem dX8_text_33 : decode cX8_text 33 = .ok (.imul, 1) := dk_104 (dk_at dksX8_text_1 10 rfl rfl)
theorem dX8_text_34 : decode cX8_text 34 = .ok (.iload_n 1, 1) := dk_27 (dk_at dksX8_text_1 11 rfl rfl)
theorem dX8_text_35 : decode cX8_text 35 = .ok (.iadd, 1) := dk_96 (dk_at dksX8_text_1 12 rfl rfl)
theorem dX8_text_36 : decode cX8_text 36 = .ok (.aload_n 0, 1) := dk_42 (dk_at dksX8_text_1 13 rfl rfl)
theorem dX8_text_37 : decode cX8_text 37 = .ok (.getfield 20, 3) := dk_180 0 20 (dk_at dksX8_text_1 14 rfl rfl)
theorem dX8_text_40 : decode cX8_text 40 = .ok (.iload_n 1, 1) := dk_27 (dk_at dksX8_text_1 17 rfl rfl)
theorem dX8_text_41 : decode cX8_text 41 = .ok (.iaload, 1) := dk_46 (dk_at dksX8_text_1 18 rfl rfl)
theorem dX8_text_42 : decode cX8_text 42 = .ok (.iastore, 1) := dk_79 (dk_at dksX8_text_1 19 rfl rfl)
theorem dX8_text_43 : decode cX8_text 43 = .ok (.iinc 1 1, 3) := dk_132 1 1 (dk_at dksX8_text_1 20 rfl rfl)
theorem dX8_text_46 : decode cX8_text 46 = .ok (.goto (-32), 3) := dk_167 255 224 (dk_at dksX8_text_2 0 rfl rfl)
theorem dX8_text_49 : decode cX8_text 49 = .ok (.aload_n 0, 1) := dk_42 (dk_at dksX8_text_2 3 rfl rfl)
theorem dX8_text_50 : decode cX8_text 50 = .ok (.getfield 17, 3) := dk_180 0 17 (dk_at dksX8_text_2 4 rfl rfl)
theorem dX8_text_53 : decode cX8_text 53 = .ok (.aload_n 0, 1) := dk_42 (dk_at dksX8_text_2 7 rfl rfl)
theorem dX8_text_54 : decode cX8_text 54 = .ok (.getfield 85, 3) := dk_180 0 85 (dk_at dksX8_text_2 8 rfl rfl)
theorem dX8_text_57 : decode cX8_text 57 = .ok (.aload_n 0, 1) := dk_42 (dk_at dksX8_text_2 11 rfl rfl)
theorem dX8_text_58 : decode cX8_text 58 = .ok (.getfield 152, 3) := dk_180 0 152 (dk_at dksX8_text_2 12 rfl rfl)
theorem dX8_text_61 : decode cX8_text 61 = .ok (.iastore, 1) := dk_79 (dk_at dksX8_text_2 15 rfl rfl)
theorem dX8_text_62 : decode cX8_text 62 = .ok (.aload_n 0, 1) := dk_42 (dk_at dksX8_text_2 16 rfl rfl)
theorem dX8_text_63 : decode cX8_text 63 = .ok (.iconst 0, 1) := dk_3 (dk_at dksX8_text_2 17 rfl rfl)
theorem dX8_text_64 : decode cX8_text 64 = .ok (.putfield 152, 3) := dk_181 0 152 (dk_at dksX8_text_2 18 rfl rfl)
theorem dX8_text_67 : decode cX8_text 67 = .ok (.aload_n 0, 1) := dk_42 (dk_at dksX8_text_2 21 rfl rfl)
theorem dX8_text_68 : decode cX8_text 68 = .ok (.aload_n 0, 1) := dk_42 (dk_at dksX8_text_2 22 rfl rfl)
theorem dX8_text_69 : decode cX8_text 69 = .ok (.getfield 85, 3) := dk_180 0 85 (dk_at dksX8_text_3 0 rfl rfl)
theorem dX8_text_72 : decode cX8_text 72 = .ok (.iconst 0, 1) := dk_3 (dk_at dksX8_text_3 3 rfl rfl)
theorem dX8_text_73 : decode cX8_text 73 = .ok (.invokevirtual 264, 3) := dk_182 1 8 (dk_at dksX8_text_3 4 rfl rfl)
theorem dX8_text_76 : decode cX8_text 76 = .ok (.istore_n 1, 1) := dk_60 (dk_at dksX8_text_3 7 rfl rfl)
theorem dX8_text_77 : decode cX8_text 77 = .ok (.aload_n 0, 1) := dk_42 (dk_at dksX8_text_3 8 rfl rfl)
theorem dX8_text_78 : decode cX8_text 78 = .ok (.getfield 185, 3) := dk_180 0 185 (dk_at dksX8_text_3 9 rfl rfl)
theorem dX8_text_81 : decode cX8_text 81 = .ok (.ifCond .eq 11, 3) := dk_153 0 11 (dk_at dksX8_text_3 12 rfl rfl)
theorem dX8_text_84 : decode cX8_text 84 = .ok (.bipush (-100), 2) := dk_16 156 (dk_at dksX8_text_3 15 rfl rfl)
theorem dX8_text_86 : decode cX8_text 86 = .ok (.aload_n 0, 1) := dk_42 (dk_at dksX8_text_3 17 rfl rfl)
theorem dX8_text_87 : decode cX8_text 87 = .ok (.getfield 189, 3) := dk_180 0 189 (dk_at dksX8_text_3 18 rfl rfl)
theorem dX8_text_90 : decode cX8_text 90 = .ok (.isub, 1) := dk_100 (dk_at dksX8_text_3 21 rfl rfl)
theorem dX8_text_91 : decode cX8_text 91 = .ok (.ireturn, 1) := dk_172 (dk_at dksX8_text_3 22 rfl rfl)
theorem dX8_text_92 : decode cX8_text 92 = .ok (.aload_n 0, 1) := dk_42 (dk_at dksX8_text_3 23 rfl rfl)
theorem dX8_text_93 : decode cX8_text 93 = .ok (.dup, 1) := dk_89 (dk_at dksX8_text_4 0 rfl rfl)
theorem dX8_text_94 : decode cX8_text 94 = .ok (.getfield 85, 3) := dk_180 0 85 (dk_at dksX8_text_4 1 rfl rfl)
theorem dX8_text_97 : decode cX8_text 97 = .ok (.iconst 1, 1) := dk_4 (dk_at dksX8_text_4 4 rfl rfl)
theorem dX8_text_98 : decode cX8_text 98 = .ok (.iadd, 1) := dk_96 (dk_at dksX8_text_4 5 rfl rfl)
theorem dX8_text_99 : decode cX8_text 99 = .ok (.putfield 85, 3) := dk_181 0 85 (dk_at dksX8_text_4 6 rfl rfl)
theorem dX8_text_102 : decode cX8_text 102 = .ok (.aload_n 0, 1) := dk_42 (dk_at dksX8_text_4 9 rfl rfl)
theorem dX8_text_103 : decode cX8_text 103 = .ok (.getfield 85, 3) := dk_180 0 85 (dk_at dksX8_text_4 10 rfl rfl)
theorem dX8_text_106 : decode cX8_text 106 = .ok (.iconst 1, 1) := dk_4 (dk_at dksX8_text_4 13 rfl rfl)
theorem dX8_text_107 : decode cX8_text 107 = .ok (.isub, 1) := dk_100 (dk_at dksX8_text_4 14 rfl rfl)
theorem dX8_text_108 : decode cX8_text 108 = .ok (.ireturn, 1) := dk_172 (dk_at dksX8_text_4 15 rfl rfl)
abbrev cX8_force : ByteArray := prog_16_method_34_code
def yX8_force : MethodName := ⟨RX8, "force", "(I)I"⟩
def dkwX8_force_1 : List UInt8 := [42, 27, 181, 0, 129, 28, 172]
abbrev dktX8_force_1 : List UInt8 := dkwX8_force_1 ++ []
def dkwX8_force_0 : List UInt8 := [27, 133, 9, 42, 180, 0, 85, 4, 100, 133, 184, 0, 91, 154, 0, 6, 16, 254, 172, 42, 180, 0, 129, 61]
abbrev dktX8_force_0 : List UInt8 := dkwX8_force_0 ++ dktX8_force_1
theorem dksX8_force_0 : cX8_force.data.toList.drop 0 = dktX8_force_0 := by decide +kernel
theorem dksX8_force_1 : cX8_force.data.toList.drop 24 = dktX8_force_1 := dk_seg dksX8_force_0 24 rfl rfl
theorem dX8_force_0 : decode cX8_force 0 = .ok (.iload_n 1, 1) := dk_27 (dk_at dksX8_force_0 0 rfl rfl)
theorem dX8_force_1 : decode cX8_force 1 = .ok (.i2l, 1) := dk_133 (dk_at dksX8_force_0 1 rfl rfl)
theorem dX8_force_2 : decode cX8_force 2 = .ok (.lconst 0, 1) := dk_9 (dk_at dksX8_force_0 2 rfl rfl)
theorem dX8_force_3 : decode cX8_force 3 = .ok (.aload_n 0, 1) := dk_42 (dk_at dksX8_force_0 3 rfl rfl)
theorem dX8_force_4 : decode cX8_force 4 = .ok (.getfield 85, 3) := dk_180 0 85 (dk_at dksX8_force_0 4 rfl rfl)
theorem dX8_force_7 : decode cX8_force 7 = .ok (.iconst 1, 1) := dk_4 (dk_at dksX8_force_0 7 rfl rfl)
theorem dX8_force_8 : decode cX8_force 8 = .ok (.isub, 1) := dk_100 (dk_at dksX8_force_0 8 rfl rfl)
theorem dX8_force_9 : decode cX8_force 9 = .ok (.i2l, 1) := dk_133 (dk_at dksX8_force_0 9 rfl rfl)
theorem dX8_force_10 : decode cX8_force 10 = .ok (.invokestatic 91, 3) := dk_184 0 91 (dk_at dksX8_force_0 10 rfl rfl)
theorem dX8_force_13 : decode cX8_force 13 = .ok (.ifCond .ne 6, 3) := dk_154 0 6 (dk_at dksX8_force_0 13 rfl rfl)
theorem dX8_force_16 : decode cX8_force 16 = .ok (.bipush (-2), 2) := dk_16 254 (dk_at dksX8_force_0 16 rfl rfl)
theorem dX8_force_18 : decode cX8_force 18 = .ok (.ireturn, 1) := dk_172 (dk_at dksX8_force_0 18 rfl rfl)
theorem dX8_force_19 : decode cX8_force 19 = .ok (.aload_n 0, 1) := dk_42 (dk_at dksX8_force_0 19 rfl rfl)
theorem dX8_force_20 : decode cX8_force 20 = .ok (.getfield 129, 3) := dk_180 0 129 (dk_at dksX8_force_0 20 rfl rfl)
theorem dX8_force_23 : decode cX8_force 23 = .ok (.istore_n 2, 1) := dk_61 (dk_at dksX8_force_0 23 rfl rfl)
theorem dX8_force_24 : decode cX8_force 24 = .ok (.aload_n 0, 1) := dk_42 (dk_at dksX8_force_1 0 rfl rfl)
theorem dX8_force_25 : decode cX8_force 25 = .ok (.iload_n 1, 1) := dk_27 (dk_at dksX8_force_1 1 rfl rfl)
theorem dX8_force_26 : decode cX8_force 26 = .ok (.putfield 129, 3) := dk_181 0 129 (dk_at dksX8_force_1 2 rfl rfl)
theorem dX8_force_29 : decode cX8_force 29 = .ok (.iload_n 2, 1) := dk_28 (dk_at dksX8_force_1 5 rfl rfl)
theorem dX8_force_30 : decode cX8_force 30 = .ok (.ireturn, 1) := dk_172 (dk_at dksX8_force_1 6 rfl rfl)
abbrev cX8_run : ByteArray := prog_16_method_42_code
def yX8_run : MethodName := ⟨RX8, "run", "(II)I"⟩
def dkwX8_run_1 : List UInt8 := [42, 180, 0, 38, 28, 46, 167, 0, 5, 16, 254, 172]
abbrev dktX8_run_1 : List UInt8 := dkwX8_run_1 ++ []
def dkwX8_run_0 : List UInt8 := [27, 184, 0, 97, 153, 0, 29, 28, 133, 9, 42, 27, 182, 0, 141, 4, 100, 133, 184, 0, 91, 153, 0, 12]
abbrev dktX8_run_0 : List UInt8 := dkwX8_run_0 ++ dktX8_run_1
theorem dksX8_run_0 : cX8_run.data.toList.drop 0 = dktX8_run_0 := by decide +kernel
theorem dksX8_run_1 : cX8_run.data.toList.drop 24 = dktX8_run_1 := dk_seg dksX8_run_0 24 rfl rfl
theorem dX8_run_0 : decode cX8_run 0 = .ok (.iload_n 1, 1) := dk_27 (dk_at dksX8_run_0 0 rfl rfl)
theorem dX8_run_1 : decode cX8_run 1 = .ok (.invokestatic 97, 3) := dk_184 0 97 (dk_at dksX8_run_0 1 rfl rfl)
theorem dX8_run_4 : decode cX8_run 4 = .ok (.ifCond .eq 29, 3) := dk_153 0 29 (dk_at dksX8_run_0 4 rfl rfl)
theorem dX8_run_7 : decode cX8_run 7 = .ok (.iload_n 2, 1) := dk_28 (dk_at dksX8_run_0 7 rfl rfl)
theorem dX8_run_8 : decode cX8_run 8 = .ok (.i2l, 1) := dk_133 (dk_at dksX8_run_0 8 rfl rfl)
theorem dX8_run_9 : decode cX8_run 9 = .ok (.lconst 0, 1) := dk_9 (dk_at dksX8_run_0 9 rfl rfl)
theorem dX8_run_10 : decode cX8_run 10 = .ok (.aload_n 0, 1) := dk_42 (dk_at dksX8_run_0 10 rfl rfl)
theorem dX8_run_11 : decode cX8_run 11 = .ok (.iload_n 1, 1) := dk_27 (dk_at dksX8_run_0 11 rfl rfl)
theorem dX8_run_12 : decode cX8_run 12 = .ok (.invokevirtual 141, 3) := dk_182 0 141 (dk_at dksX8_run_0 12 rfl rfl)
theorem dX8_run_15 : decode cX8_run 15 = .ok (.iconst 1, 1) := dk_4 (dk_at dksX8_run_0 15 rfl rfl)
theorem dX8_run_16 : decode cX8_run 16 = .ok (.isub, 1) := dk_100 (dk_at dksX8_run_0 16 rfl rfl)
theorem dX8_run_17 : decode cX8_run 17 = .ok (.i2l, 1) := dk_133 (dk_at dksX8_run_0 17 rfl rfl)
theorem dX8_run_18 : decode cX8_run 18 = .ok (.invokestatic 91, 3) := dk_184 0 91 (dk_at dksX8_run_0 18 rfl rfl)
theorem dX8_run_21 : decode cX8_run 21 = .ok (.ifCond .eq 12, 3) := dk_153 0 12 (dk_at dksX8_run_0 21 rfl rfl)
theorem dX8_run_24 : decode cX8_run 24 = .ok (.aload_n 0, 1) := dk_42 (dk_at dksX8_run_1 0 rfl rfl)
theorem dX8_run_25 : decode cX8_run 25 = .ok (.getfield 38, 3) := dk_180 0 38 (dk_at dksX8_run_1 1 rfl rfl)
theorem dX8_run_28 : decode cX8_run 28 = .ok (.iload_n 2, 1) := dk_28 (dk_at dksX8_run_1 4 rfl rfl)
theorem dX8_run_29 : decode cX8_run 29 = .ok (.iaload, 1) := dk_46 (dk_at dksX8_run_1 5 rfl rfl)
theorem dX8_run_30 : decode cX8_run 30 = .ok (.goto 5, 3) := dk_167 0 5 (dk_at dksX8_run_1 6 rfl rfl)
theorem dX8_run_33 : decode cX8_run 33 = .ok (.bipush (-2), 2) := dk_16 254 (dk_at dksX8_run_1 9 rfl rfl)
theorem dX8_run_35 : decode cX8_run 35 = .ok (.ireturn, 1) := dk_172 (dk_at dksX8_run_1 11 rfl rfl)
abbrev cX8_asks : ByteArray := prog_16_method_43_code
def yX8_asks : MethodName := ⟨RX8, "asks", "(II)I"⟩
def dkwX8_asks_1 : List UInt8 := [16, 24, 182, 1, 22, 167, 0, 5, 16, 156, 172]
abbrev dktX8_asks_1 : List UInt8 := dkwX8_asks_1 ++ []
def dkwX8_asks_0 : List UInt8 := [42, 27, 182, 0, 112, 153, 0, 27, 28, 133, 10, 20, 0, 101, 184, 0, 91, 153, 0, 15, 42, 27, 28, 3]
abbrev dktX8_asks_0 : List UInt8 := dkwX8_asks_0 ++ dktX8_asks_1
theorem dksX8_asks_0 : cX8_asks.data.toList.drop 0 = dktX8_asks_0 := by decide +kernel
theorem dksX8_asks_1 : cX8_asks.data.toList.drop 24 = dktX8_asks_1 := dk_seg dksX8_asks_0 24 rfl rfl
theorem dX8_asks_0 : decode cX8_asks 0 = .ok (.aload_n 0, 1) := dk_42 (dk_at dksX8_asks_0 0 rfl rfl)
theorem dX8_asks_1 : decode cX8_asks 1 = .ok (.iload_n 1, 1) := dk_27 (dk_at dksX8_asks_0 1 rfl rfl)
theorem dX8_asks_2 : decode cX8_asks 2 = .ok (.invokevirtual 112, 3) := dk_182 0 112 (dk_at dksX8_asks_0 2 rfl rfl)
theorem dX8_asks_5 : decode cX8_asks 5 = .ok (.ifCond .eq 27, 3) := dk_153 0 27 (dk_at dksX8_asks_0 5 rfl rfl)
theorem dX8_asks_8 : decode cX8_asks 8 = .ok (.iload_n 2, 1) := dk_28 (dk_at dksX8_asks_0 8 rfl rfl)
theorem dX8_asks_9 : decode cX8_asks 9 = .ok (.i2l, 1) := dk_133 (dk_at dksX8_asks_0 9 rfl rfl)
theorem dX8_asks_10 : decode cX8_asks 10 = .ok (.lconst 1, 1) := dk_10 (dk_at dksX8_asks_0 10 rfl rfl)
theorem dX8_asks_11 : decode cX8_asks 11 = .ok (.ldc2_w 101, 3) := dk_20 0 101 (dk_at dksX8_asks_0 11 rfl rfl)
theorem dX8_asks_14 : decode cX8_asks 14 = .ok (.invokestatic 91, 3) := dk_184 0 91 (dk_at dksX8_asks_0 14 rfl rfl)
theorem dX8_asks_17 : decode cX8_asks 17 = .ok (.ifCond .eq 15, 3) := dk_153 0 15 (dk_at dksX8_asks_0 17 rfl rfl)
theorem dX8_asks_20 : decode cX8_asks 20 = .ok (.aload_n 0, 1) := dk_42 (dk_at dksX8_asks_0 20 rfl rfl)
theorem dX8_asks_21 : decode cX8_asks 21 = .ok (.iload_n 1, 1) := dk_27 (dk_at dksX8_asks_0 21 rfl rfl)
theorem dX8_asks_22 : decode cX8_asks 22 = .ok (.iload_n 2, 1) := dk_28 (dk_at dksX8_asks_0 22 rfl rfl)
theorem dX8_asks_23 : decode cX8_asks 23 = .ok (.iconst 0, 1) := dk_3 (dk_at dksX8_asks_0 23 rfl rfl)
theorem dX8_asks_24 : decode cX8_asks 24 = .ok (.bipush 24, 2) := dk_16 24 (dk_at dksX8_asks_1 0 rfl rfl)
theorem dX8_asks_26 : decode cX8_asks 26 = .ok (.invokevirtual 278, 3) := dk_182 1 22 (dk_at dksX8_asks_1 2 rfl rfl)
theorem dX8_asks_29 : decode cX8_asks 29 = .ok (.goto 5, 3) := dk_167 0 5 (dk_at dksX8_asks_1 5 rfl rfl)
theorem dX8_asks_32 : decode cX8_asks 32 = .ok (.bipush (-100), 2) := dk_16 156 (dk_at dksX8_asks_1 8 rfl rfl)
theorem dX8_asks_34 : decode cX8_asks 34 = .ok (.ireturn, 1) := dk_172 (dk_at dksX8_asks_1 10 rfl rfl)
abbrev cX8_takesOf : ByteArray := prog_16_method_36_code
def yX8_takesOf : MethodName := ⟨RX8, "takesOf", "(IIII)I"⟩
def dkwX8_takesOf_5 : List UInt8 := [21, 8, 5, 108, 167, 0, 5, 21, 8, 3, 28, 184, 1, 11, 172]
abbrev dktX8_takesOf_5 : List UInt8 := dkwX8_takesOf_5 ++ []
def dkwX8_takesOf_4 : List UInt8 := [159, 0, 9, 21, 5, 6, 160, 0, 12, 21, 8, 28, 5, 112, 96, 167, 0, 18, 21, 5, 8, 160, 0, 10]
abbrev dktX8_takesOf_4 : List UInt8 := dkwX8_takesOf_4 ++ dktX8_takesOf_5
def dkwX8_takesOf_3 : List UInt8 := [160, 0, 5, 3, 172, 42, 3, 28, 29, 21, 6, 21, 7, 21, 4, 182, 1, 15, 54, 8, 21, 5, 4]
abbrev dktX8_takesOf_3 : List UInt8 := dkwX8_takesOf_3 ++ dktX8_takesOf_4
def dkwX8_takesOf_2 : List UInt8 := [21, 7, 21, 6, 161, 0, 9, 21, 6, 116, 167, 0, 4, 28, 172, 21, 5, 6, 160, 0, 10, 28, 4]
abbrev dktX8_takesOf_2 : List UInt8 := dkwX8_takesOf_2 ++ dktX8_takesOf_3
def dkwX8_takesOf_1 : List UInt8 := [104, 4, 96, 46, 54, 7, 21, 5, 5, 159, 0, 9, 21, 5, 7, 160, 0, 24, 21, 5, 7, 160, 0, 16]
abbrev dktX8_takesOf_1 : List UInt8 := dkwX8_takesOf_1 ++ dktX8_takesOf_2
def dkwX8_takesOf_0 : List UInt8 := [42, 180, 0, 29, 27, 46, 54, 5, 42, 180, 0, 32, 5, 27, 104, 46, 54, 6, 42, 180, 0, 32, 5, 27]
abbrev dktX8_takesOf_0 : List UInt8 := dkwX8_takesOf_0 ++ dktX8_takesOf_1
theorem dksX8_takesOf_0 : cX8_takesOf.data.toList.drop 0 = dktX8_takesOf_0 := by decide +kernel
theorem dksX8_takesOf_1 : cX8_takesOf.data.toList.drop 24 = dktX8_takesOf_1 := dk_seg dksX8_takesOf_0 24 rfl rfl
theorem dksX8_takesOf_2 : cX8_takesOf.data.toList.drop 48 = dktX8_takesOf_2 := dk_seg dksX8_takesOf_1 24 rfl rfl
theorem dksX8_takesOf_3 : cX8_takesOf.data.toList.drop 71 = dktX8_takesOf_3 := dk_seg dksX8_takesOf_2 23 rfl rfl
theorem dksX8_takesOf_4 : cX8_takesOf.data.toList.drop 94 = dktX8_takesOf_4 := dk_seg dksX8_takesOf_3 23 rfl rfl
theorem dksX8_takesOf_5 : cX8_takesOf.data.toList.drop 118 = dktX8_takesOf_5 := dk_seg dksX8_takesOf_4 24 rfl rfl
theorem dX8_takesOf_0 : decode cX8_takesOf 0 = .ok (.aload_n 0, 1) := dk_42 (dk_at dksX8_takesOf_0 0 rfl rfl)
theorem dX8_takesOf_1 : decode cX8_takesOf 1 = .ok (.getfield 29, 3) := dk_180 0 29 (dk_at dksX8_takesOf_0 1 rfl rfl)
theorem dX8_takesOf_4 : decode cX8_takesOf 4 = .ok (.iload_n 1, 1) := dk_27 (dk_at dksX8_takesOf_0 4 rfl rfl)
theorem dX8_takesOf_5 : decode cX8_takesOf 5 = .ok (.iaload, 1) := dk_46 (dk_at dksX8_takesOf_0 5 rfl rfl)
theorem dX8_takesOf_6 : decode cX8_takesOf 6 = .ok (.istore 5, 2) := dk_54 5 (dk_at dksX8_takesOf_0 6 rfl rfl)
theorem dX8_takesOf_8 : decode cX8_takesOf 8 = .ok (.aload_n 0, 1) := dk_42 (dk_at dksX8_takesOf_0 8 rfl rfl)
theorem dX8_takesOf_9 : decode cX8_takesOf 9 = .ok (.getfield 32, 3) := dk_180 0 32 (dk_at dksX8_takesOf_0 9 rfl rfl)
theorem dX8_takesOf_12 : decode cX8_takesOf 12 = .ok (.iconst 2, 1) := dk_5 (dk_at dksX8_takesOf_0 12 rfl rfl)
theorem dX8_takesOf_13 : decode cX8_takesOf 13 = .ok (.iload_n 1, 1) := dk_27 (dk_at dksX8_takesOf_0 13 rfl rfl)
theorem dX8_takesOf_14 : decode cX8_takesOf 14 = .ok (.imul, 1) := dk_104 (dk_at dksX8_takesOf_0 14 rfl rfl)
theorem dX8_takesOf_15 : decode cX8_takesOf 15 = .ok (.iaload, 1) := dk_46 (dk_at dksX8_takesOf_0 15 rfl rfl)
theorem dX8_takesOf_16 : decode cX8_takesOf 16 = .ok (.istore 6, 2) := dk_54 6 (dk_at dksX8_takesOf_0 16 rfl rfl)
theorem dX8_takesOf_18 : decode cX8_takesOf 18 = .ok (.aload_n 0, 1) := dk_42 (dk_at dksX8_takesOf_0 18 rfl rfl)
theorem dX8_takesOf_19 : decode cX8_takesOf 19 = .ok (.getfield 32, 3) := dk_180 0 32 (dk_at dksX8_takesOf_0 19 rfl rfl)
theorem dX8_takesOf_22 : decode cX8_takesOf 22 = .ok (.iconst 2, 1) := dk_5 (dk_at dksX8_takesOf_0 22 rfl rfl)
theorem dX8_takesOf_23 : decode cX8_takesOf 23 = .ok (.iload_n 1, 1) := dk_27 (dk_at dksX8_takesOf_0 23 rfl rfl)
theorem dX8_takesOf_24 : decode cX8_takesOf 24 = .ok (.imul, 1) := dk_104 (dk_at dksX8_takesOf_1 0 rfl rfl)
theorem dX8_takesOf_25 : decode cX8_takesOf 25 = .ok (.iconst 1, 1) := dk_4 (dk_at dksX8_takesOf_1 1 rfl rfl)
theorem dX8_takesOf_26 : decode cX8_takesOf 26 = .ok (.iadd, 1) := dk_96 (dk_at dksX8_takesOf_1 2 rfl rfl)
theorem dX8_takesOf_27 : decode cX8_takesOf 27 = .ok (.iaload, 1) := dk_46 (dk_at dksX8_takesOf_1 3 rfl rfl)
theorem dX8_takesOf_28 : decode cX8_takesOf 28 = .ok (.istore 7, 2) := dk_54 7 (dk_at dksX8_takesOf_1 4 rfl rfl)
theorem dX8_takesOf_30 : decode cX8_takesOf 30 = .ok (.iload 5, 2) := dk_21 5 (dk_at dksX8_takesOf_1 6 rfl rfl)
theorem dX8_takesOf_32 : decode cX8_takesOf 32 = .ok (.iconst 2, 1) := dk_5 (dk_at dksX8_takesOf_1 8 rfl rfl)
theorem dX8_takesOf_33 : decode cX8_takesOf 33 = .ok (.if_icmp .eq 9, 3) := dk_159 0 9 (dk_at dksX8_takesOf_1 9 rfl rfl)
theorem dX8_takesOf_36 : decode cX8_takesOf 36 = .ok (.iload 5, 2) := dk_21 5 (dk_at dksX8_takesOf_1 12 rfl rfl)
theorem dX8_takesOf_38 : decode cX8_takesOf 38 = .ok (.iconst 4, 1) := dk_7 (dk_at dksX8_takesOf_1 14 rfl rfl)
theorem dX8_takesOf_39 : decode cX8_takesOf 39 = .ok (.if_icmp .ne 24, 3) := dk_160 0 24 (dk_at dksX8_takesOf_1 15 rfl rfl)
theorem dX8_takesOf_42 : decode cX8_takesOf 42 = .ok (.iload 5, 2) := dk_21 5 (dk_at dksX8_takesOf_1 18 rfl rfl)
theorem dX8_takesOf_44 : decode cX8_takesOf 44 = .ok (.iconst 4, 1) := dk_7 (dk_at dksX8_takesOf_1 20 rfl rfl)
theorem dX8_takesOf_45 : decode cX8_takesOf 45 = .ok (.if_icmp .ne 16, 3) := dk_160 0 16 (dk_at dksX8_takesOf_1 21 rfl rfl)
theorem dX8_takesOf_48 : decode cX8_takesOf 48 = .ok (.iload 7, 2) := dk_21 7 (dk_at dksX8_takesOf_2 0 rfl rfl)
theorem dX8_takesOf_50 : decode cX8_takesOf 50 = .ok (.iload 6, 2) := dk_21 6 (dk_at dksX8_takesOf_2 2 rfl rfl)
theorem dX8_takesOf_52 : decode cX8_takesOf 52 = .ok (.if_icmp .lt 9, 3) := dk_161 0 9 (dk_at dksX8_takesOf_2 4 rfl rfl)
theorem dX8_takesOf_55 : decode cX8_takesOf 55 = .ok (.iload 6, 2) := dk_21 6 (dk_at dksX8_takesOf_2 7 rfl rfl)
theorem dX8_takesOf_57 : decode cX8_takesOf 57 = .ok (.ineg, 1) := dk_116 (dk_at dksX8_takesOf_2 9 rfl rfl)
theorem dX8_takesOf_58 : decode cX8_takesOf 58 = .ok (.goto 4, 3) := dk_167 0 4 (dk_at dksX8_takesOf_2 10 rfl rfl)
theorem dX8_takesOf_61 : decode cX8_takesOf 61 = .ok (.iload_n 2, 1) := dk_28 (dk_at dksX8_takesOf_2 13 rfl rfl)
theorem dX8_takesOf_62 : decode cX8_takesOf 62 = .ok (.ireturn, 1) := dk_172 (dk_at dksX8_takesOf_2 14 rfl rfl)
theorem dX8_takesOf_63 : decode cX8_takesOf 63 = .ok (.iload 5, 2) := dk_21 5 (dk_at dksX8_takesOf_2 15 rfl rfl)
theorem dX8_takesOf_65 : decode cX8_takesOf 65 = .ok (.iconst 3, 1) := dk_6 (dk_at dksX8_takesOf_2 17 rfl rfl)
theorem dX8_takesOf_66 : decode cX8_takesOf 66 = .ok (.if_icmp .ne 10, 3) := dk_160 0 10 (dk_at dksX8_takesOf_2 18 rfl rfl)
theorem dX8_takesOf_69 : decode cX8_takesOf 69 = .ok (.iload_n 2, 1) := dk_28 (dk_at dksX8_takesOf_2 21 rfl rfl)
theorem dX8_takesOf_70 : decode cX8_takesOf 70 = .ok (.iconst 1, 1) := dk_4 (dk_at dksX8_takesOf_2 22 rfl rfl)
theorem dX8_takesOf_71 : decode cX8_takesOf 71 = .ok (.if_icmp .ne 5, 3) := dk_160 0 5 (dk_at dksX8_takesOf_3 0 rfl rfl)
theorem dX8_takesOf_74 : decode cX8_takesOf 74 = .ok (.iconst 0, 1) := dk_3 (dk_at dksX8_takesOf_3 3 rfl rfl)
theorem dX8_takesOf_75 : decode cX8_takesOf 75 = .ok (.ireturn, 1) := dk_172 (dk_at dksX8_takesOf_3 4 rfl rfl)
theorem dX8_takesOf_76 : decode cX8_takesOf 76 = .ok (.aload_n 0, 1) := dk_42 (dk_at dksX8_takesOf_3 5 rfl rfl)
theorem dX8_takesOf_77 : decode cX8_takesOf 77 = .ok (.iconst 0, 1) := dk_3 (dk_at dksX8_takesOf_3 6 rfl rfl)
theorem dX8_takesOf_78 : decode cX8_takesOf 78 = .ok (.iload_n 2, 1) := dk_28 (dk_at dksX8_takesOf_3 7 rfl rfl)
theorem dX8_takesOf_79 : decode cX8_takesOf 79 = .ok (.iload_n 3, 1) := dk_29 (dk_at dksX8_takesOf_3 8 rfl rfl)
theorem dX8_takesOf_80 : decode cX8_takesOf 80 = .ok (.iload 6, 2) := dk_21 6 (dk_at dksX8_takesOf_3 9 rfl rfl)
theorem dX8_takesOf_82 : decode cX8_takesOf 82 = .ok (.iload 7, 2) := dk_21 7 (dk_at dksX8_takesOf_3 11 rfl rfl)
theorem dX8_takesOf_84 : decode cX8_takesOf 84 = .ok (.iload 4, 2) := dk_21 4 (dk_at dksX8_takesOf_3 13 rfl rfl)
theorem dX8_takesOf_86 : decode cX8_takesOf 86 = .ok (.invokevirtual 271, 3) := dk_182 1 15 (dk_at dksX8_takesOf_3 15 rfl rfl)
theorem dX8_takesOf_89 : decode cX8_takesOf 89 = .ok (.istore 8, 2) := dk_54 8 (dk_at dksX8_takesOf_3 18 rfl rfl)
theorem dX8_takesOf_91 : decode cX8_takesOf 91 = .ok (.iload 5, 2) := dk_21 5 (dk_at dksX8_takesOf_3 20 rfl rfl)
theorem dX8_takesOf_93 : decode cX8_takesOf 93 = .ok (.iconst 1, 1) := dk_4 (dk_at dksX8_takesOf_3 22 rfl rfl)
theorem dX8_takesOf_94 : decode cX8_takesOf 94 = .ok (.if_icmp .eq 9, 3) := dk_159 0 9 (dk_at dksX8_takesOf_4 0 rfl rfl)
theorem dX8_takesOf_97 : decode cX8_takesOf 97 = .ok (.iload 5, 2) := dk_21 5 (dk_at dksX8_takesOf_4 3 rfl rfl)
theorem dX8_takesOf_99 : decode cX8_takesOf 99 = .ok (.iconst 3, 1) := dk_6 (dk_at dksX8_takesOf_4 5 rfl rfl)
theorem dX8_takesOf_100 : decode cX8_takesOf 100 = .ok (.if_icmp .ne 12, 3) := dk_160 0 12 (dk_at dksX8_takesOf_4 6 rfl rfl)
theorem dX8_takesOf_103 : decode cX8_takesOf 103 = .ok (.iload 8, 2) := dk_21 8 (dk_at dksX8_takesOf_4 9 rfl rfl)
theorem dX8_takesOf_105 : decode cX8_takesOf 105 = .ok (.iload_n 2, 1) := dk_28 (dk_at dksX8_takesOf_4 11 rfl rfl)
theorem dX8_takesOf_106 : decode cX8_takesOf 106 = .ok (.iconst 2, 1) := dk_5 (dk_at dksX8_takesOf_4 12 rfl rfl)
theorem dX8_takesOf_107 : decode cX8_takesOf 107 = .ok (.irem, 1) := dk_112 (dk_at dksX8_takesOf_4 13 rfl rfl)
theorem dX8_takesOf_108 : decode cX8_takesOf 108 = .ok (.iadd, 1) := dk_96 (dk_at dksX8_takesOf_4 14 rfl rfl)
theorem dX8_takesOf_109 : decode cX8_takesOf 109 = .ok (.goto 18, 3) := dk_167 0 18 (dk_at dksX8_takesOf_4 15 rfl rfl)
theorem dX8_takesOf_112 : decode cX8_takesOf 112 = .ok (.iload 5, 2) := dk_21 5 (dk_at dksX8_takesOf_4 18 rfl rfl)
theorem dX8_takesOf_114 : decode cX8_takesOf 114 = .ok (.iconst 5, 1) := dk_8 (dk_at dksX8_takesOf_4 20 rfl rfl)
theorem dX8_takesOf_115 : decode cX8_takesOf 115 = .ok (.if_icmp .ne 10, 3) := dk_160 0 10 (dk_at dksX8_takesOf_4 21 rfl rfl)
theorem dX8_takesOf_118 : decode cX8_takesOf 118 = .ok (.iload 8, 2) := dk_21 8 (dk_at dksX8_takesOf_5 0 rfl rfl)
theorem dX8_takesOf_120 : decode cX8_takesOf 120 = .ok (.iconst 2, 1) := dk_5 (dk_at dksX8_takesOf_5 2 rfl rfl)
theorem dX8_takesOf_121 : decode cX8_takesOf 121 = .ok (.idiv, 1) := dk_108 (dk_at dksX8_takesOf_5 3 rfl rfl)
theorem dX8_takesOf_122 : decode cX8_takesOf 122 = .ok (.goto 5, 3) := dk_167 0 5 (dk_at dksX8_takesOf_5 4 rfl rfl)
theorem dX8_takesOf_125 : decode cX8_takesOf 125 = .ok (.iload 8, 2) := dk_21 8 (dk_at dksX8_takesOf_5 7 rfl rfl)
theorem dX8_takesOf_127 : decode cX8_takesOf 127 = .ok (.iconst 0, 1) := dk_3 (dk_at dksX8_takesOf_5 9 rfl rfl)
theorem dX8_takesOf_128 : decode cX8_takesOf 128 = .ok (.iload_n 2, 1) := dk_28 (dk_at dksX8_takesOf_5 10 rfl rfl)
theorem dX8_takesOf_129 : decode cX8_takesOf 129 = .ok (.invokestatic 267, 3) := dk_184 1 11 (dk_at dksX8_takesOf_5 11 rfl rfl)
theorem dX8_takesOf_132 : decode cX8_takesOf 132 = .ok (.ireturn, 1) := dk_172 (dk_at dksX8_takesOf_5 14 rfl rfl)
abbrev cX8_glean : ByteArray := prog_16_method_46_code
def yX8_glean : MethodName := ⟨RX8, "glean", "(II)I"⟩
def dkwX8_glean_1 : List UInt8 := [16, 156, 172]
abbrev dktX8_glean_1 : List UInt8 := dkwX8_glean_1 ++ []
def dkwX8_glean_0 : List UInt8 := [42, 27, 182, 0, 112, 153, 0, 19, 28, 184, 0, 97, 153, 0, 12, 42, 27, 28, 182, 1, 29, 167, 0, 5]
abbrev dktX8_glean_0 : List UInt8 := dkwX8_glean_0 ++ dktX8_glean_1
theorem dksX8_glean_0 : cX8_glean.data.toList.drop 0 = dktX8_glean_0 := by decide +kernel
theorem dksX8_glean_1 : cX8_glean.data.toList.drop 24 = dktX8_glean_1 := dk_seg dksX8_glean_0 24 rfl rfl
theorem dX8_glean_0 : decode cX8_glean 0 = .ok (.aload_n 0, 1) := dk_42 (dk_at dksX8_glean_0 0 rfl rfl)
theorem dX8_glean_1 : decode cX8_glean 1 = .ok (.iload_n 1, 1) := dk_27 (dk_at dksX8_glean_0 1 rfl rfl)
theorem dX8_glean_2 : decode cX8_glean 2 = .ok (.invokevirtual 112, 3) := dk_182 0 112 (dk_at dksX8_glean_0 2 rfl rfl)
theorem dX8_glean_5 : decode cX8_glean 5 = .ok (.ifCond .eq 19, 3) := dk_153 0 19 (dk_at dksX8_glean_0 5 rfl rfl)
theorem dX8_glean_8 : decode cX8_glean 8 = .ok (.iload_n 2, 1) := dk_28 (dk_at dksX8_glean_0 8 rfl rfl)
theorem dX8_glean_9 : decode cX8_glean 9 = .ok (.invokestatic 97, 3) := dk_184 0 97 (dk_at dksX8_glean_0 9 rfl rfl)
theorem dX8_glean_12 : decode cX8_glean 12 = .ok (.ifCond .eq 12, 3) := dk_153 0 12 (dk_at dksX8_glean_0 12 rfl rfl)
theorem dX8_glean_15 : decode cX8_glean 15 = .ok (.aload_n 0, 1) := dk_42 (dk_at dksX8_glean_0 15 rfl rfl)
theorem dX8_glean_16 : decode cX8_glean 16 = .ok (.iload_n 1, 1) := dk_27 (dk_at dksX8_glean_0 16 rfl rfl)
theorem dX8_glean_17 : decode cX8_glean 17 = .ok (.iload_n 2, 1) := dk_28 (dk_at dksX8_glean_0 17 rfl rfl)
theorem dX8_glean_18 : decode cX8_glean 18 = .ok (.invokevirtual 285, 3) := dk_182 1 29 (dk_at dksX8_glean_0 18 rfl rfl)
theorem dX8_glean_21 : decode cX8_glean 21 = .ok (.goto 5, 3) := dk_167 0 5 (dk_at dksX8_glean_0 21 rfl rfl)
theorem dX8_glean_24 : decode cX8_glean 24 = .ok (.bipush (-100), 2) := dk_16 156 (dk_at dksX8_glean_1 0 rfl rfl)
theorem dX8_glean_26 : decode cX8_glean 26 = .ok (.ireturn, 1) := dk_172 (dk_at dksX8_glean_1 2 rfl rfl)
abbrev cX8_gleans : ByteArray := prog_16_method_45_code
def yX8_gleans : MethodName := ⟨RX8, "gleans", "(II)I"⟩
def dkwX8_gleans_5 : List UInt8 := [21, 5, 21, 6, 79, 21, 4, 21, 6, 96, 54, 4, 132, 5, 1, 167, 255, 133, 21, 4, 172]
abbrev dktX8_gleans_5 : List UInt8 := dkwX8_gleans_5 ++ []
def dkwX8_gleans_4 : List UInt8 := [180, 0, 32, 5, 27, 104, 4, 96, 46, 21, 6, 96, 3, 17, 3, 231, 184, 1, 11, 79, 42, 180, 0, 41]
abbrev dktX8_gleans_4 : List UInt8 := dkwX8_gleans_4 ++ dktX8_gleans_5
def dkwX8_gleans_3 : List UInt8 := [180, 0, 35, 21, 5, 46, 21, 4, 100, 21, 6, 182, 1, 26, 42, 180, 0, 32, 5, 27, 104, 4, 96, 42]
abbrev dktX8_gleans_3 : List UInt8 := dkwX8_gleans_3 ++ dktX8_gleans_4
def dkwX8_gleans_2 : List UInt8 := [100, 54, 7, 21, 6, 21, 7, 116, 162, 0, 9, 21, 7, 116, 167, 0, 5, 21, 6, 54, 6, 42, 28, 42]
abbrev dktX8_gleans_2 : List UInt8 := dkwX8_gleans_2 ++ dktX8_gleans_3
def dkwX8_gleans_1 : List UInt8 := [21, 5, 46, 21, 5, 42, 180, 0, 26, 28, 46, 182, 1, 22, 54, 6, 16, 24, 42, 180, 0, 26, 28, 46]
abbrev dktX8_gleans_1 : List UInt8 := dkwX8_gleans_1 ++ dktX8_gleans_2
def dkwX8_gleans_0 : List UInt8 := [42, 28, 182, 0, 141, 62, 3, 54, 4, 3, 54, 5, 21, 5, 29, 162, 0, 123, 42, 27, 42, 180, 0, 38]
abbrev dktX8_gleans_0 : List UInt8 := dkwX8_gleans_0 ++ dktX8_gleans_1
theorem dksX8_gleans_0 : cX8_gleans.data.toList.drop 0 = dktX8_gleans_0 := by decide +kernel
theorem dksX8_gleans_1 : cX8_gleans.data.toList.drop 24 = dktX8_gleans_1 := dk_seg dksX8_gleans_0 24 rfl rfl
theorem dksX8_gleans_2 : cX8_gleans.data.toList.drop 48 = dktX8_gleans_2 := dk_seg dksX8_gleans_1 24 rfl rfl
theorem dksX8_gleans_3 : cX8_gleans.data.toList.drop 72 = dktX8_gleans_3 := dk_seg dksX8_gleans_2 24 rfl rfl
theorem dksX8_gleans_4 : cX8_gleans.data.toList.drop 96 = dktX8_gleans_4 := dk_seg dksX8_gleans_3 24 rfl rfl
theorem dksX8_gleans_5 : cX8_gleans.data.toList.drop 120 = dktX8_gleans_5 := dk_seg dksX8_gleans_4 24 rfl rfl
theorem dX8_gleans_0 : decode cX8_gleans 0 = .ok (.aload_n 0, 1) := dk_42 (dk_at dksX8_gleans_0 0 rfl rfl)
theorem dX8_gleans_1 : decode cX8_gleans 1 = .ok (.iload_n 2, 1) := dk_28 (dk_at dksX8_gleans_0 1 rfl rfl)
theorem dX8_gleans_2 : decode cX8_gleans 2 = .ok (.invokevirtual 141, 3) := dk_182 0 141 (dk_at dksX8_gleans_0 2 rfl rfl)
theorem dX8_gleans_5 : decode cX8_gleans 5 = .ok (.istore_n 3, 1) := dk_62 (dk_at dksX8_gleans_0 5 rfl rfl)
theorem dX8_gleans_6 : decode cX8_gleans 6 = .ok (.iconst 0, 1) := dk_3 (dk_at dksX8_gleans_0 6 rfl rfl)
theorem dX8_gleans_7 : decode cX8_gleans 7 = .ok (.istore 4, 2) := dk_54 4 (dk_at dksX8_gleans_0 7 rfl rfl)
theorem dX8_gleans_9 : decode cX8_gleans 9 = .ok (.iconst 0, 1) := dk_3 (dk_at dksX8_gleans_0 9 rfl rfl)
theorem dX8_gleans_10 : decode cX8_gleans 10 = .ok (.istore 5, 2) := dk_54 5 (dk_at dksX8_gleans_0 10 rfl rfl)
theorem dX8_gleans_12 : decode cX8_gleans 12 = .ok (.iload 5, 2) := dk_21 5 (dk_at dksX8_gleans_0 12 rfl rfl)
theorem dX8_gleans_14 : decode cX8_gleans 14 = .ok (.iload_n 3, 1) := dk_29 (dk_at dksX8_gleans_0 14 rfl rfl)
theorem dX8_gleans_15 : decode cX8_gleans 15 = .ok (.if_icmp .ge 123, 3) := dk_162 0 123 (dk_at dksX8_gleans_0 15 rfl rfl)
theorem dX8_gleans_18 : decode cX8_gleans 18 = .ok (.aload_n 0, 1) := dk_42 (dk_at dksX8_gleans_0 18 rfl rfl)
theorem dX8_gleans_19 : decode cX8_gleans 19 = .ok (.iload_n 1, 1) := dk_27 (dk_at dksX8_gleans_0 19 rfl rfl)
theorem dX8_gleans_20 : decode cX8_gleans 20 = .ok (.aload_n 0, 1) := dk_42 (dk_at dksX8_gleans_0 20 rfl rfl)
theorem dX8_gleans_21 : decode cX8_gleans 21 = .ok (.getfield 38, 3) := dk_180 0 38 (dk_at dksX8_gleans_0 21 rfl rfl)
theorem dX8_gleans_24 : decode cX8_gleans 24 = .ok (.iload 5, 2) := dk_21 5 (dk_at dksX8_gleans_1 0 rfl rfl)
theorem dX8_gleans_26 : decode cX8_gleans 26 = .ok (.iaload, 1) := dk_46 (dk_at dksX8_gleans_1 2 rfl rfl)
theorem dX8_gleans_27 : decode cX8_gleans 27 = .ok (.iload 5, 2) := dk_21 5 (dk_at dksX8_gleans_1 3 rfl rfl)
theorem dX8_gleans_29 : decode cX8_gleans 29 = .ok (.aload_n 0, 1) := dk_42 (dk_at dksX8_gleans_1 5 rfl rfl)
theorem dX8_gleans_30 : decode cX8_gleans 30 = .ok (.getfield 26, 3) := dk_180 0 26 (dk_at dksX8_gleans_1 6 rfl rfl)
theorem dX8_gleans_33 : decode cX8_gleans 33 = .ok (.iload_n 2, 1) := dk_28 (dk_at dksX8_gleans_1 9 rfl rfl)
theorem dX8_gleans_34 : decode cX8_gleans 34 = .ok (.iaload, 1) := dk_46 (dk_at dksX8_gleans_1 10 rfl rfl)
theorem dX8_gleans_35 : decode cX8_gleans 35 = .ok (.invokevirtual 278, 3) := dk_182 1 22 (dk_at dksX8_gleans_1 11 rfl rfl)
theorem dX8_gleans_38 : decode cX8_gleans 38 = .ok (.istore 6, 2) := dk_54 6 (dk_at dksX8_gleans_1 14 rfl rfl)
theorem dX8_gleans_40 : decode cX8_gleans 40 = .ok (.bipush 24, 2) := dk_16 24 (dk_at dksX8_gleans_1 16 rfl rfl)
theorem dX8_gleans_42 : decode cX8_gleans 42 = .ok (.aload_n 0, 1) := dk_42 (dk_at dksX8_gleans_1 18 rfl rfl)
theorem dX8_gleans_43 : decode cX8_gleans 43 = .ok (.getfield 26, 3) := dk_180 0 26 (dk_at dksX8_gleans_1 19 rfl rfl)
theorem dX8_gleans_46 : decode cX8_gleans 46 = .ok (.iload_n 2, 1) := dk_28 (dk_at dksX8_gleans_1 22 rfl rfl)
theorem dX8_gleans_47 : decode cX8_gleans 47 = .ok (.iaload, 1) := dk_46 (dk_at dksX8_gleans_1 23 rfl rfl)
theorem dX8_gleans_48 : decode cX8_gleans 48 = .ok (.isub, 1) := dk_100 (dk_at dksX8_gleans_2 0 rfl rfl)
theorem dX8_gleans_49 : decode cX8_gleans 49 = .ok (.istore 7, 2) := dk_54 7 (dk_at dksX8_gleans_2 1 rfl rfl)
theorem dX8_gleans_51 : decode cX8_gleans 51 = .ok (.iload 6, 2) := dk_21 6 (dk_at dksX8_gleans_2 3 rfl rfl)
theorem dX8_gleans_53 : decode cX8_gleans 53 = .ok (.iload 7, 2) := dk_21 7 (dk_at dksX8_gleans_2 5 rfl rfl)
theorem dX8_gleans_55 : decode cX8_gleans 55 = .ok (.ineg, 1) := dk_116 (dk_at dksX8_gleans_2 7 rfl rfl)
theorem dX8_gleans_56 : decode cX8_gleans 56 = .ok (.if_icmp .ge 9, 3) := dk_162 0 9 (dk_at dksX8_gleans_2 8 rfl rfl)
theorem dX8_gleans_59 : decode cX8_gleans 59 = .ok (.iload 7, 2) := dk_21 7 (dk_at dksX8_gleans_2 11 rfl rfl)
theorem dX8_gleans_61 : decode cX8_gleans 61 = .ok (.ineg, 1) := dk_116 (dk_at dksX8_gleans_2 13 rfl rfl)
theorem dX8_gleans_62 : decode cX8_gleans 62 = .ok (.goto 5, 3) := dk_167 0 5 (dk_at dksX8_gleans_2 14 rfl rfl)
theorem dX8_gleans_65 : decode cX8_gleans 65 = .ok (.iload 6, 2) := dk_21 6 (dk_at dksX8_gleans_2 17 rfl rfl)
theorem dX8_gleans_67 : decode cX8_gleans 67 = .ok (.istore 6, 2) := dk_54 6 (dk_at dksX8_gleans_2 19 rfl rfl)
theorem dX8_gleans_69 : decode cX8_gleans 69 = .ok (.aload_n 0, 1) := dk_42 (dk_at dksX8_gleans_2 21 rfl rfl)
theorem dX8_gleans_70 : decode cX8_gleans 70 = .ok (.iload_n 2, 1) := dk_28 (dk_at dksX8_gleans_2 22 rfl rfl)
theorem dX8_gleans_71 : decode cX8_gleans 71 = .ok (.aload_n 0, 1) := dk_42 (dk_at dksX8_gleans_2 23 rfl rfl)
theorem dX8_gleans_72 : decode cX8_gleans 72 = .ok (.getfield 35, 3) := dk_180 0 35 (dk_at dksX8_gleans_3 0 rfl rfl)
theorem dX8_gleans_75 : decode cX8_gleans 75 = .ok (.iload 5, 2) := dk_21 5 (dk_at dksX8_gleans_3 3 rfl rfl)
theorem dX8_gleans_77 : decode cX8_gleans 77 = .ok (.iaload, 1) := dk_46 (dk_at dksX8_gleans_3 5 rfl rfl)
theorem dX8_gleans_78 : decode cX8_gleans 78 = .ok (.iload 4, 2) := dk_21 4 (dk_at dksX8_gleans_3 6 rfl rfl)
theorem dX8_gleans_80 : decode cX8_gleans 80 = .ok (.isub, 1) := dk_100 (dk_at dksX8_gleans_3 8 rfl rfl)
theorem dX8_gleans_81 : decode cX8_gleans 81 = .ok (.iload 6, 2) := dk_21 6 (dk_at dksX8_gleans_3 9 rfl rfl)
theorem dX8_gleans_83 : decode cX8_gleans 83 = .ok (.invokevirtual 282, 3) := dk_182 1 26 (dk_at dksX8_gleans_3 11 rfl rfl)
theorem dX8_gleans_86 : decode cX8_gleans 86 = .ok (.aload_n 0, 1) := dk_42 (dk_at dksX8_gleans_3 14 rfl rfl)
theorem dX8_gleans_87 : decode cX8_gleans 87 = .ok (.getfield 32, 3) := dk_180 0 32 (dk_at dksX8_gleans_3 15 rfl rfl)
theorem dX8_gleans_90 : decode cX8_gleans 90 = .ok (.iconst 2, 1) := dk_5 (dk_at dksX8_gleans_3 18 rfl rfl)
theorem dX8_gleans_91 : decode cX8_gleans 91 = .ok (.iload_n 1, 1) := dk_27 (dk_at dksX8_gleans_3 19 rfl rfl)
theorem dX8_gleans_92 : decode cX8_gleans 92 = .ok (.imul, 1) := dk_104 (dk_at dksX8_gleans_3 20 rfl rfl)
theorem dX8_gleans_93 : decode cX8_gleans 93 = .ok (.iconst 1, 1) := dk_4 (dk_at dksX8_gleans_3 21 rfl rfl)
theorem dX8_gleans_94 : decode cX8_gleans 94 = .ok (.iadd, 1) := dk_96 (dk_at dksX8_gleans_3 22 rfl rfl)
theorem dX8_gleans_95 : decode cX8_gleans 95 = .ok (.aload_n 0, 1) := dk_42 (dk_at dksX8_gleans_3 23 rfl rfl)
theorem dX8_gleans_96 : decode cX8_gleans 96 = .ok (.getfield 32, 3) := dk_180 0 32 (dk_at dksX8_gleans_4 0 rfl rfl)
theorem dX8_gleans_99 : decode cX8_gleans 99 = .ok (.iconst 2, 1) := dk_5 (dk_at dksX8_gleans_4 3 rfl rfl)
theorem dX8_gleans_100 : decode cX8_gleans 100 = .ok (.iload_n 1, 1) := dk_27 (dk_at dksX8_gleans_4 4 rfl rfl)
theorem dX8_gleans_101 : decode cX8_gleans 101 = .ok (.imul, 1) := dk_104 (dk_at dksX8_gleans_4 5 rfl rfl)
theorem dX8_gleans_102 : decode cX8_gleans 102 = .ok (.iconst 1, 1) := dk_4 (dk_at dksX8_gleans_4 6 rfl rfl)
theorem dX8_gleans_103 : decode cX8_gleans 103 = .ok (.iadd, 1) := dk_96 (dk_at dksX8_gleans_4 7 rfl rfl)
theorem dX8_gleans_104 : decode cX8_gleans 104 = .ok (.iaload, 1) := dk_46 (dk_at dksX8_gleans_4 8 rfl rfl)
theorem dX8_gleans_105 : decode cX8_gleans 105 = .ok (.iload 6, 2) := dk_21 6 (dk_at dksX8_gleans_4 9 rfl rfl)
theorem dX8_gleans_107 : decode cX8_gleans 107 = .ok (.iadd, 1) := dk_96 (dk_at dksX8_gleans_4 11 rfl rfl)
theorem dX8_gleans_108 : decode cX8_gleans 108 = .ok (.iconst 0, 1) := dk_3 (dk_at dksX8_gleans_4 12 rfl rfl)
theorem dX8_gleans_109 : decode cX8_gleans 109 = .ok (.sipush 999, 3) := dk_17 3 231 (dk_at dksX8_gleans_4 13 rfl rfl)
theorem dX8_gleans_112 : decode cX8_gleans 112 = .ok (.invokestatic 267, 3) := dk_184 1 11 (dk_at dksX8_gleans_4 16 rfl rfl)
theorem dX8_gleans_115 : decode cX8_gleans 115 = .ok (.iastore, 1) := dk_79 (dk_at dksX8_gleans_4 19 rfl rfl)
theorem dX8_gleans_116 : decode cX8_gleans 116 = .ok (.aload_n 0, 1) := dk_42 (dk_at dksX8_gleans_4 20 rfl rfl)
theorem dX8_gleans_117 : decode cX8_gleans 117 = .ok (.getfield 41, 3) := dk_180 0 41 (dk_at dksX8_gleans_4 21 rfl rfl)
theorem dX8_gleans_120 : decode cX8_gleans 120 = .ok (.iload 5, 2) := dk_21 5 (dk_at dksX8_gleans_5 0 rfl rfl)
theorem dX8_gleans_122 : decode cX8_gleans 122 = .ok (.iload 6, 2) := dk_21 6 (dk_at dksX8_gleans_5 2 rfl rfl)
theorem dX8_gleans_124 : decode cX8_gleans 124 = .ok (.iastore, 1) := dk_79 (dk_at dksX8_gleans_5 4 rfl rfl)
theorem dX8_gleans_125 : decode cX8_gleans 125 = .ok (.iload 4, 2) := dk_21 4 (dk_at dksX8_gleans_5 5 rfl rfl)
theorem dX8_gleans_127 : decode cX8_gleans 127 = .ok (.iload 6, 2) := dk_21 6 (dk_at dksX8_gleans_5 7 rfl rfl)
theorem dX8_gleans_129 : decode cX8_gleans 129 = .ok (.iadd, 1) := dk_96 (dk_at dksX8_gleans_5 9 rfl rfl)
theorem dX8_gleans_130 : decode cX8_gleans 130 = .ok (.istore 4, 2) := dk_54 4 (dk_at dksX8_gleans_5 10 rfl rfl)
theorem dX8_gleans_132 : decode cX8_gleans 132 = .ok (.iinc 5 1, 3) := dk_132 5 1 (dk_at dksX8_gleans_5 12 rfl rfl)
theorem dX8_gleans_135 : decode cX8_gleans 135 = .ok (.goto (-123), 3) := dk_167 255 133 (dk_at dksX8_gleans_5 15 rfl rfl)
theorem dX8_gleans_138 : decode cX8_gleans 138 = .ok (.iload 4, 2) := dk_21 4 (dk_at dksX8_gleans_5 18 rfl rfl)
theorem dX8_gleans_140 : decode cX8_gleans 140 = .ok (.ireturn, 1) := dk_172 (dk_at dksX8_gleans_5 20 rfl rfl)
abbrev cX8_closes : ByteArray := prog_16_method_44_code
def yX8_closes : MethodName := ⟨RX8, "closes", "(III)V"⟩
def dkwX8_closes_2 : List UInt8 := [27, 46, 28, 29, 96, 122, 28, 120, 128, 79, 42, 180, 0, 26, 27, 92, 46, 29, 100, 79, 177]
abbrev dktX8_closes_2 : List UInt8 := dkwX8_closes_2 ++ []
def dkwX8_closes_1 : List UInt8 := [21, 4, 42, 180, 0, 23, 27, 46, 28, 122, 28, 29, 100, 120, 128, 167, 0, 18, 21, 4, 42, 180, 0, 23]
abbrev dktX8_closes_1 : List UInt8 := dkwX8_closes_1 ++ dktX8_closes_2
def dkwX8_closes_0 : List UInt8 := [42, 180, 0, 23, 27, 46, 4, 28, 120, 4, 100, 126, 54, 4, 42, 180, 0, 23, 27, 29, 156, 0, 21]
abbrev dktX8_closes_0 : List UInt8 := dkwX8_closes_0 ++ dktX8_closes_1
theorem dksX8_closes_0 : cX8_closes.data.toList.drop 0 = dktX8_closes_0 := by decide +kernel
theorem dksX8_closes_1 : cX8_closes.data.toList.drop 23 = dktX8_closes_1 := dk_seg dksX8_closes_0 23 rfl rfl
theorem dksX8_closes_2 : cX8_closes.data.toList.drop 47 = dktX8_closes_2 := dk_seg dksX8_closes_1 24 rfl rfl
theorem dX8_closes_0 : decode cX8_closes 0 = .ok (.aload_n 0, 1) := dk_42 (dk_at dksX8_closes_0 0 rfl rfl)
theorem dX8_closes_1 : decode cX8_closes 1 = .ok (.getfield 23, 3) := dk_180 0 23 (dk_at dksX8_closes_0 1 rfl rfl)
theorem dX8_closes_4 : decode cX8_closes 4 = .ok (.iload_n 1, 1) := dk_27 (dk_at dksX8_closes_0 4 rfl rfl)
theorem dX8_closes_5 : decode cX8_closes 5 = .ok (.iaload, 1) := dk_46 (dk_at dksX8_closes_0 5 rfl rfl)
theorem dX8_closes_6 : decode cX8_closes 6 = .ok (.iconst 1, 1) := dk_4 (dk_at dksX8_closes_0 6 rfl rfl)
theorem dX8_closes_7 : decode cX8_closes 7 = .ok (.iload_n 2, 1) := dk_28 (dk_at dksX8_closes_0 7 rfl rfl)
theorem dX8_closes_8 : decode cX8_closes 8 = .ok (.ishl, 1) := dk_120 (dk_at dksX8_closes_0 8 rfl rfl)
theorem dX8_closes_9 : decode cX8_closes 9 = .ok (.iconst 1, 1) := dk_4 (dk_at dksX8_closes_0 9 rfl rfl)
theorem dX8_closes_10 : decode cX8_closes 10 = .ok (.isub, 1) := dk_100 (dk_at dksX8_closes_0 10 rfl rfl)
theorem dX8_closes_11 : decode cX8_closes 11 = .ok (.iand, 1) := dk_126 (dk_at dksX8_closes_0 11 rfl rfl)
theorem dX8_closes_12 : decode cX8_closes 12 = .ok (.istore 4, 2) := dk_54 4 (dk_at dksX8_closes_0 12 rfl rfl)
theorem dX8_closes_14 : decode cX8_closes 14 = .ok (.aload_n 0, 1) := dk_42 (dk_at dksX8_closes_0 14 rfl rfl)
theorem dX8_closes_15 : decode cX8_closes 15 = .ok (.getfield 23, 3) := dk_180 0 23 (dk_at dksX8_closes_0 15 rfl rfl)
theorem dX8_closes_18 : decode cX8_closes 18 = .ok (.iload_n 1, 1) := dk_27 (dk_at dksX8_closes_0 18 rfl rfl)
theorem dX8_closes_19 : decode cX8_closes 19 = .ok (.iload_n 3, 1) := dk_29 (dk_at dksX8_closes_0 19 rfl rfl)
theorem dX8_closes_20 : decode cX8_closes 20 = .ok (.ifCond .ge 21, 3) := dk_156 0 21 (dk_at dksX8_closes_0 20 rfl rfl)
theorem dX8_closes_23 : decode cX8_closes 23 = .ok (.iload 4, 2) := dk_21 4 (dk_at dksX8_closes_1 0 rfl rfl)
theorem dX8_closes_25 : decode cX8_closes 25 = .ok (.aload_n 0, 1) := dk_42 (dk_at dksX8_closes_1 2 rfl rfl)
theorem dX8_closes_26 : decode cX8_closes 26 = .ok (.getfield 23, 3) := dk_180 0 23 (dk_at dksX8_closes_1 3 rfl rfl)
theorem dX8_closes_29 : decode cX8_closes 29 = .ok (.iload_n 1, 1) := dk_27 (dk_at dksX8_closes_1 6 rfl rfl)
theorem dX8_closes_30 : decode cX8_closes 30 = .ok (.iaload, 1) := dk_46 (dk_at dksX8_closes_1 7 rfl rfl)
theorem dX8_closes_31 : decode cX8_closes 31 = .ok (.iload_n 2, 1) := dk_28 (dk_at dksX8_closes_1 8 rfl rfl)
theorem dX8_closes_32 : decode cX8_closes 32 = .ok (.ishr, 1) := dk_122 (dk_at dksX8_closes_1 9 rfl rfl)
theorem dX8_closes_33 : decode cX8_closes 33 = .ok (.iload_n 2, 1) := dk_28 (dk_at dksX8_closes_1 10 rfl rfl)
theorem dX8_closes_34 : decode cX8_closes 34 = .ok (.iload_n 3, 1) := dk_29 (dk_at dksX8_closes_1 11 rfl rfl)
theorem dX8_closes_35 : decode cX8_closes 35 = .ok (.isub, 1) := dk_100 (dk_at dksX8_closes_1 12 rfl rfl)
theorem dX8_closes_36 : decode cX8_closes 36 = .ok (.ishl, 1) := dk_120 (dk_at dksX8_closes_1 13 rfl rfl)
theorem dX8_closes_37 : decode cX8_closes 37 = .ok (.ior, 1) := dk_128 (dk_at dksX8_closes_1 14 rfl rfl)
theorem dX8_closes_38 : decode cX8_closes 38 = .ok (.goto 18, 3) := dk_167 0 18 (dk_at dksX8_closes_1 15 rfl rfl)
theorem dX8_closes_41 : decode cX8_closes 41 = .ok (.iload 4, 2) := dk_21 4 (dk_at dksX8_closes_1 18 rfl rfl)
theorem dX8_closes_43 : decode cX8_closes 43 = .ok (.aload_n 0, 1) := dk_42 (dk_at dksX8_closes_1 20 rfl rfl)
theorem dX8_closes_44 : decode cX8_closes 44 = .ok (.getfield 23, 3) := dk_180 0 23 (dk_at dksX8_closes_1 21 rfl rfl)
theorem dX8_closes_47 : decode cX8_closes 47 = .ok (.iload_n 1, 1) := dk_27 (dk_at dksX8_closes_2 0 rfl rfl)
theorem dX8_closes_48 : decode cX8_closes 48 = .ok (.iaload, 1) := dk_46 (dk_at dksX8_closes_2 1 rfl rfl)
theorem dX8_closes_49 : decode cX8_closes 49 = .ok (.iload_n 2, 1) := dk_28 (dk_at dksX8_closes_2 2 rfl rfl)
theorem dX8_closes_50 : decode cX8_closes 50 = .ok (.iload_n 3, 1) := dk_29 (dk_at dksX8_closes_2 3 rfl rfl)
theorem dX8_closes_51 : decode cX8_closes 51 = .ok (.iadd, 1) := dk_96 (dk_at dksX8_closes_2 4 rfl rfl)
theorem dX8_closes_52 : decode cX8_closes 52 = .ok (.ishr, 1) := dk_122 (dk_at dksX8_closes_2 5 rfl rfl)
theorem dX8_closes_53 : decode cX8_closes 53 = .ok (.iload_n 2, 1) := dk_28 (dk_at dksX8_closes_2 6 rfl rfl)
theorem dX8_closes_54 : decode cX8_closes 54 = .ok (.ishl, 1) := dk_120 (dk_at dksX8_closes_2 7 rfl rfl)
theorem dX8_closes_55 : decode cX8_closes 55 = .ok (.ior, 1) := dk_128 (dk_at dksX8_closes_2 8 rfl rfl)
theorem dX8_closes_56 : decode cX8_closes 56 = .ok (.iastore, 1) := dk_79 (dk_at dksX8_closes_2 9 rfl rfl)
theorem dX8_closes_57 : decode cX8_closes 57 = .ok (.aload_n 0, 1) := dk_42 (dk_at dksX8_closes_2 10 rfl rfl)
theorem dX8_closes_58 : decode cX8_closes 58 = .ok (.getfield 26, 3) := dk_180 0 26 (dk_at dksX8_closes_2 11 rfl rfl)
theorem dX8_closes_61 : decode cX8_closes 61 = .ok (.iload_n 1, 1) := dk_27 (dk_at dksX8_closes_2 14 rfl rfl)
theorem dX8_closes_62 : decode cX8_closes 62 = .ok (.dup2, 1) := dk_92 (dk_at dksX8_closes_2 15 rfl rfl)
theorem dX8_closes_63 : decode cX8_closes 63 = .ok (.iaload, 1) := dk_46 (dk_at dksX8_closes_2 16 rfl rfl)
theorem dX8_closes_64 : decode cX8_closes 64 = .ok (.iload_n 3, 1) := dk_29 (dk_at dksX8_closes_2 17 rfl rfl)
theorem dX8_closes_65 : decode cX8_closes 65 = .ok (.isub, 1) := dk_100 (dk_at dksX8_closes_2 18 rfl rfl)
theorem dX8_closes_66 : decode cX8_closes 66 = .ok (.iastore, 1) := dk_79 (dk_at dksX8_closes_2 19 rfl rfl)
theorem dX8_closes_67 : decode cX8_closes 67 = .ok (.return_, 1) := dk_177 (dk_at dksX8_closes_2 20 rfl rfl)
abbrev cX8_go : ByteArray := prog_16_method_48_code
def yX8_go : MethodName := ⟨RX8, "go", "(II)I"⟩
def dkwX8_go_2 : List UInt8 := [42, 27, 182, 0, 103, 172]
abbrev dktX8_go_2 : List UInt8 := dkwX8_go_2 ++ []
def dkwX8_go_1 : List UInt8 := [180, 0, 88, 162, 0, 21, 42, 42, 180, 0, 44, 29, 46, 27, 182, 1, 29, 87, 132, 3, 1, 167, 255, 233]
abbrev dktX8_go_1 : List UInt8 := dkwX8_go_1 ++ dktX8_go_2
def dkwX8_go_0 : List UInt8 := [27, 184, 0, 97, 153, 0, 11, 42, 28, 182, 1, 32, 154, 0, 6, 16, 254, 172, 3, 62, 29, 42]
abbrev dktX8_go_0 : List UInt8 := dkwX8_go_0 ++ dktX8_go_1
theorem dksX8_go_0 : cX8_go.data.toList.drop 0 = dktX8_go_0 := by decide +kernel
theorem dksX8_go_1 : cX8_go.data.toList.drop 22 = dktX8_go_1 := dk_seg dksX8_go_0 22 rfl rfl
theorem dksX8_go_2 : cX8_go.data.toList.drop 46 = dktX8_go_2 := dk_seg dksX8_go_1 24 rfl rfl
theorem dX8_go_0 : decode cX8_go 0 = .ok (.iload_n 1, 1) := dk_27 (dk_at dksX8_go_0 0 rfl rfl)
theorem dX8_go_1 : decode cX8_go 1 = .ok (.invokestatic 97, 3) := dk_184 0 97 (dk_at dksX8_go_0 1 rfl rfl)
theorem dX8_go_4 : decode cX8_go 4 = .ok (.ifCond .eq 11, 3) := dk_153 0 11 (dk_at dksX8_go_0 4 rfl rfl)
theorem dX8_go_7 : decode cX8_go 7 = .ok (.aload_n 0, 1) := dk_42 (dk_at dksX8_go_0 7 rfl rfl)
theorem dX8_go_8 : decode cX8_go 8 = .ok (.iload_n 2, 1) := dk_28 (dk_at dksX8_go_0 8 rfl rfl)
theorem dX8_go_9 : decode cX8_go 9 = .ok (.invokevirtual 288, 3) := dk_182 1 32 (dk_at dksX8_go_0 9 rfl rfl)
theorem dX8_go_12 : decode cX8_go 12 = .ok (.ifCond .ne 6, 3) := dk_154 0 6 (dk_at dksX8_go_0 12 rfl rfl)
theorem dX8_go_15 : decode cX8_go 15 = .ok (.bipush (-2), 2) := dk_16 254 (dk_at dksX8_go_0 15 rfl rfl)
theorem dX8_go_17 : decode cX8_go 17 = .ok (.ireturn, 1) := dk_172 (dk_at dksX8_go_0 17 rfl rfl)
theorem dX8_go_18 : decode cX8_go 18 = .ok (.iconst 0, 1) := dk_3 (dk_at dksX8_go_0 18 rfl rfl)
theorem dX8_go_19 : decode cX8_go 19 = .ok (.istore_n 3, 1) := dk_62 (dk_at dksX8_go_0 19 rfl rfl)
theorem dX8_go_20 : decode cX8_go 20 = .ok (.iload_n 3, 1) := dk_29 (dk_at dksX8_go_0 20 rfl rfl)
theorem dX8_go_21 : decode cX8_go 21 = .ok (.aload_n 0, 1) := dk_42 (dk_at dksX8_go_0 21 rfl rfl)
theorem dX8_go_22 : decode cX8_go 22 = .ok (.getfield 88, 3) := dk_180 0 88 (dk_at dksX8_go_1 0 rfl rfl)
theorem dX8_go_25 : decode cX8_go 25 = .ok (.if_icmp .ge 21, 3) := dk_162 0 21 (dk_at dksX8_go_1 3 rfl rfl)
theorem dX8_go_28 : decode cX8_go 28 = .ok (.aload_n 0, 1) := dk_42 (dk_at dksX8_go_1 6 rfl rfl)
theorem dX8_go_29 : decode cX8_go 29 = .ok (.aload_n 0, 1) := dk_42 (dk_at dksX8_go_1 7 rfl rfl)
theorem dX8_go_30 : decode cX8_go 30 = .ok (.getfield 44, 3) := dk_180 0 44 (dk_at dksX8_go_1 8 rfl rfl)
theorem dX8_go_33 : decode cX8_go 33 = .ok (.iload_n 3, 1) := dk_29 (dk_at dksX8_go_1 11 rfl rfl)
theorem dX8_go_34 : decode cX8_go 34 = .ok (.iaload, 1) := dk_46 (dk_at dksX8_go_1 12 rfl rfl)
theorem dX8_go_35 : decode cX8_go 35 = .ok (.iload_n 1, 1) := dk_27 (dk_at dksX8_go_1 13 rfl rfl)
theorem dX8_go_36 : decode cX8_go 36 = .ok (.invokevirtual 285, 3) := dk_182 1 29 (dk_at dksX8_go_1 14 rfl rfl)
theorem dX8_go_39 : decode cX8_go 39 = .ok (.pop, 1) := dk_87 (dk_at dksX8_go_1 17 rfl rfl)
theorem dX8_go_40 : decode cX8_go 40 = .ok (.iinc 3 1, 3) := dk_132 3 1 (dk_at dksX8_go_1 18 rfl rfl)
theorem dX8_go_43 : decode cX8_go 43 = .ok (.goto (-23), 3) := dk_167 255 233 (dk_at dksX8_go_1 21 rfl rfl)
theorem dX8_go_46 : decode cX8_go 46 = .ok (.aload_n 0, 1) := dk_42 (dk_at dksX8_go_2 0 rfl rfl)
theorem dX8_go_47 : decode cX8_go 47 = .ok (.iload_n 1, 1) := dk_27 (dk_at dksX8_go_2 1 rfl rfl)
theorem dX8_go_48 : decode cX8_go 48 = .ok (.invokevirtual 103, 3) := dk_182 0 103 (dk_at dksX8_go_2 2 rfl rfl)
theorem dX8_go_51 : decode cX8_go 51 = .ok (.ireturn, 1) := dk_172 (dk_at dksX8_go_2 5 rfl rfl)
abbrev cX8_isOrder : ByteArray := prog_16_method_47_code
def yX8_isOrder : MethodName := ⟨RX8, "isOrder", "(I)Z"⟩
def dkwX8_isOrder_4 : List UInt8 := [172]
abbrev dktX8_isOrder_4 : List UInt8 := dkwX8_isOrder_4 ++ []
def dkwX8_isOrder_3 : List UInt8 := [167, 255, 198, 29, 154, 0, 19, 28, 4, 42, 180, 0, 88, 120, 4, 100, 160, 0, 7, 4, 167, 0, 4, 3]
abbrev dktX8_isOrder_3 : List UInt8 := dkwX8_isOrder_3 ++ dktX8_isOrder_4
def dkwX8_isOrder_2 : List UInt8 := [182, 0, 112, 154, 0, 5, 3, 172, 28, 4, 42, 180, 0, 44, 21, 4, 46, 120, 128, 61, 132, 4, 255]
abbrev dktX8_isOrder_2 : List UInt8 := dkwX8_isOrder_2 ++ dktX8_isOrder_3
def dkwX8_isOrder_1 : List UInt8 := [16, 10, 112, 4, 100, 79, 29, 16, 10, 108, 62, 27, 155, 0, 17, 42, 42, 180, 0, 44, 21, 4, 46]
abbrev dktX8_isOrder_1 : List UInt8 := dkwX8_isOrder_1 ++ dktX8_isOrder_2
def dkwX8_isOrder_0 : List UInt8 := [3, 61, 27, 62, 42, 180, 0, 88, 4, 100, 54, 4, 21, 4, 155, 0, 59, 42, 180, 0, 44, 21, 4, 29]
abbrev dktX8_isOrder_0 : List UInt8 := dkwX8_isOrder_0 ++ dktX8_isOrder_1
theorem dksX8_isOrder_0 : cX8_isOrder.data.toList.drop 0 = dktX8_isOrder_0 := by decide +kernel
theorem dksX8_isOrder_1 : cX8_isOrder.data.toList.drop 24 = dktX8_isOrder_1 := dk_seg dksX8_isOrder_0 24 rfl rfl
theorem dksX8_isOrder_2 : cX8_isOrder.data.toList.drop 47 = dktX8_isOrder_2 := dk_seg dksX8_isOrder_1 23 rfl rfl
theorem dksX8_isOrder_3 : cX8_isOrder.data.toList.drop 70 = dktX8_isOrder_3 := dk_seg dksX8_isOrder_2 23 rfl rfl
theorem dksX8_isOrder_4 : cX8_isOrder.data.toList.drop 94 = dktX8_isOrder_4 := dk_seg dksX8_isOrder_3 24 rfl rfl
theorem dX8_isOrder_0 : decode cX8_isOrder 0 = .ok (.iconst 0, 1) := dk_3 (dk_at dksX8_isOrder_0 0 rfl rfl)
theorem dX8_isOrder_1 : decode cX8_isOrder 1 = .ok (.istore_n 2, 1) := dk_61 (dk_at dksX8_isOrder_0 1 rfl rfl)
theorem dX8_isOrder_2 : decode cX8_isOrder 2 = .ok (.iload_n 1, 1) := dk_27 (dk_at dksX8_isOrder_0 2 rfl rfl)
theorem dX8_isOrder_3 : decode cX8_isOrder 3 = .ok (.istore_n 3, 1) := dk_62 (dk_at dksX8_isOrder_0 3 rfl rfl)
theorem dX8_isOrder_4 : decode cX8_isOrder 4 = .ok (.aload_n 0, 1) := dk_42 (dk_at dksX8_isOrder_0 4 rfl rfl)
theorem dX8_isOrder_5 : decode cX8_isOrder 5 = .ok (.getfield 88, 3) := dk_180 0 88 (dk_at dksX8_isOrder_0 5 rfl rfl)
theorem dX8_isOrder_8 : decode cX8_isOrder 8 = .ok (.iconst 1, 1) := dk_4 (dk_at dksX8_isOrder_0 8 rfl rfl)
theorem dX8_isOrder_9 : decode cX8_isOrder 9 = .ok (.isub, 1) := dk_100 (dk_at dksX8_isOrder_0 9 rfl rfl)
theorem dX8_isOrder_10 : decode cX8_isOrder 10 = .ok (.istore 4, 2) := dk_54 4 (dk_at dksX8_isOrder_0 10 rfl rfl)
theorem dX8_isOrder_12 : decode cX8_isOrder 12 = .ok (.iload 4, 2) := dk_21 4 (dk_at dksX8_isOrder_0 12 rfl rfl)
theorem dX8_isOrder_14 : decode cX8_isOrder 14 = .ok (.ifCond .lt 59, 3) := dk_155 0 59 (dk_at dksX8_isOrder_0 14 rfl rfl)
theorem dX8_isOrder_17 : decode cX8_isOrder 17 = .ok (.aload_n 0, 1) := dk_42 (dk_at dksX8_isOrder_0 17 rfl rfl)
theorem dX8_isOrder_18 : decode cX8_isOrder 18 = .ok (.getfield 44, 3) := dk_180 0 44 (dk_at dksX8_isOrder_0 18 rfl rfl)
theorem dX8_isOrder_21 : decode cX8_isOrder 21 = .ok (.iload 4, 2) := dk_21 4 (dk_at dksX8_isOrder_0 21 rfl rfl)
theorem dX8_isOrder_23 : decode cX8_isOrder 23 = .ok (.iload_n 3, 1) := dk_29 (dk_at dksX8_isOrder_0 23 rfl rfl)
theorem dX8_isOrder_24 : decode cX8_isOrder 24 = .ok (.bipush 10, 2) := dk_16 10 (dk_at dksX8_isOrder_1 0 rfl rfl)
theorem dX8_isOrder_26 : decode cX8_isOrder 26 = .ok (.irem, 1) := dk_112 (dk_at dksX8_isOrder_1 2 rfl rfl)
theorem dX8_isOrder_27 : decode cX8_isOrder 27 = .ok (.iconst 1, 1) := dk_4 (dk_at dksX8_isOrder_1 3 rfl rfl)
theorem dX8_isOrder_28 : decode cX8_isOrder 28 = .ok (.isub, 1) := dk_100 (dk_at dksX8_isOrder_1 4 rfl rfl)
theorem dX8_isOrder_29 : decode cX8_isOrder 29 = .ok (.iastore, 1) := dk_79 (dk_at dksX8_isOrder_1 5 rfl rfl)
theorem dX8_isOrder_30 : decode cX8_isOrder 30 = .ok (.iload_n 3, 1) := dk_29 (dk_at dksX8_isOrder_1 6 rfl rfl)
theorem dX8_isOrder_31 : decode cX8_isOrder 31 = .ok (.bipush 10, 2) := dk_16 10 (dk_at dksX8_isOrder_1 7 rfl rfl)
theorem dX8_isOrder_33 : decode cX8_isOrder 33 = .ok (.idiv, 1) := dk_108 (dk_at dksX8_isOrder_1 9 rfl rfl)
theorem dX8_isOrder_34 : decode cX8_isOrder 34 = .ok (.istore_n 3, 1) := dk_62 (dk_at dksX8_isOrder_1 10 rfl rfl)
theorem dX8_isOrder_35 : decode cX8_isOrder 35 = .ok (.iload_n 1, 1) := dk_27 (dk_at dksX8_isOrder_1 11 rfl rfl)
theorem dX8_isOrder_36 : decode cX8_isOrder 36 = .ok (.ifCond .lt 17, 3) := dk_155 0 17 (dk_at dksX8_isOrder_1 12 rfl rfl)
theorem dX8_isOrder_39 : decode cX8_isOrder 39 = .ok (.aload_n 0, 1) := dk_42 (dk_at dksX8_isOrder_1 15 rfl rfl)
theorem dX8_isOrder_40 : decode cX8_isOrder 40 = .ok (.aload_n 0, 1) := dk_42 (dk_at dksX8_isOrder_1 16 rfl rfl)
theorem dX8_isOrder_41 : decode cX8_isOrder 41 = .ok (.getfield 44, 3) := dk_180 0 44 (dk_at dksX8_isOrder_1 17 rfl rfl)
theorem dX8_isOrder_44 : decode cX8_isOrder 44 = .ok (.iload 4, 2) := dk_21 4 (dk_at dksX8_isOrder_1 20 rfl rfl)
theorem dX8_isOrder_46 : decode cX8_isOrder 46 = .ok (.iaload, 1) := dk_46 (dk_at dksX8_isOrder_1 22 rfl rfl)
theorem dX8_isOrder_47 : decode cX8_isOrder 47 = .ok (.invokevirtual 112, 3) := dk_182 0 112 (dk_at dksX8_isOrder_2 0 rfl rfl)
theorem dX8_isOrder_50 : decode cX8_isOrder 50 = .ok (.ifCond .ne 5, 3) := dk_154 0 5 (dk_at dksX8_isOrder_2 3 rfl rfl)
theorem dX8_isOrder_53 : decode cX8_isOrder 53 = .ok (.iconst 0, 1) := dk_3 (dk_at dksX8_isOrder_2 6 rfl rfl)
theorem dX8_isOrder_54 : decode cX8_isOrder 54 = .ok (.ireturn, 1) := dk_172 (dk_at dksX8_isOrder_2 7 rfl rfl)
theorem dX8_isOrder_55 : decode cX8_isOrder 55 = .ok (.iload_n 2, 1) := dk_28 (dk_at dksX8_isOrder_2 8 rfl rfl)
theorem dX8_isOrder_56 : decode cX8_isOrder 56 = .ok (.iconst 1, 1) := dk_4 (dk_at dksX8_isOrder_2 9 rfl rfl)
theorem dX8_isOrder_57 : decode cX8_isOrder 57 = .ok (.aload_n 0, 1) := dk_42 (dk_at dksX8_isOrder_2 10 rfl rfl)
theorem dX8_isOrder_58 : decode cX8_isOrder 58 = .ok (.getfield 44, 3) := dk_180 0 44 (dk_at dksX8_isOrder_2 11 rfl rfl)
theorem dX8_isOrder_61 : decode cX8_isOrder 61 = .ok (.iload 4, 2) := dk_21 4 (dk_at dksX8_isOrder_2 14 rfl rfl)
theorem dX8_isOrder_63 : decode cX8_isOrder 63 = .ok (.iaload, 1) := dk_46 (dk_at dksX8_isOrder_2 16 rfl rfl)
theorem dX8_isOrder_64 : decode cX8_isOrder 64 = .ok (.ishl, 1) := dk_120 (dk_at dksX8_isOrder_2 17 rfl rfl)
theorem dX8_isOrder_65 : decode cX8_isOrder 65 = .ok (.ior, 1) := dk_128 (dk_at dksX8_isOrder_2 18 rfl rfl)
theorem dX8_isOrder_66 : decode cX8_isOrder 66 = .ok (.istore_n 2, 1) := dk_61 (dk_at dksX8_isOrder_2 19 rfl rfl)
theorem dX8_isOrder_67 : decode cX8_isOrder 67 = .ok (.iinc 4 (-1), 3) := dk_132 4 255 (dk_at dksX8_isOrder_2 20 rfl rfl)
theorem dX8_isOrder_70 : decode cX8_isOrder 70 = .ok (.goto (-58), 3) := dk_167 255 198 (dk_at dksX8_isOrder_3 0 rfl rfl)
theorem dX8_isOrder_73 : decode cX8_isOrder 73 = .ok (.iload_n 3, 1) := dk_29 (dk_at dksX8_isOrder_3 3 rfl rfl)
theorem dX8_isOrder_74 : decode cX8_isOrder 74 = .ok (.ifCond .ne 19, 3) := dk_154 0 19 (dk_at dksX8_isOrder_3 4 rfl rfl)
theorem dX8_isOrder_77 : decode cX8_isOrder 77 = .ok (.iload_n 2, 1) := dk_28 (dk_at dksX8_isOrder_3 7 rfl rfl)
theorem dX8_isOrder_78 : decode cX8_isOrder 78 = .ok (.iconst 1, 1) := dk_4 (dk_at dksX8_isOrder_3 8 rfl rfl)
theorem dX8_isOrder_79 : decode cX8_isOrder 79 = .ok (.aload_n 0, 1) := dk_42 (dk_at dksX8_isOrder_3 9 rfl rfl)
theorem dX8_isOrder_80 : decode cX8_isOrder 80 = .ok (.getfield 88, 3) := dk_180 0 88 (dk_at dksX8_isOrder_3 10 rfl rfl)
theorem dX8_isOrder_83 : decode cX8_isOrder 83 = .ok (.ishl, 1) := dk_120 (dk_at dksX8_isOrder_3 13 rfl rfl)
theorem dX8_isOrder_84 : decode cX8_isOrder 84 = .ok (.iconst 1, 1) := dk_4 (dk_at dksX8_isOrder_3 14 rfl rfl)
theorem dX8_isOrder_85 : decode cX8_isOrder 85 = .ok (.isub, 1) := dk_100 (dk_at dksX8_isOrder_3 15 rfl rfl)
theorem dX8_isOrder_86 : decode cX8_isOrder 86 = .ok (.if_icmp .ne 7, 3) := dk_160 0 7 (dk_at dksX8_isOrder_3 16 rfl rfl)
theorem dX8_isOrder_89 : decode cX8_isOrder 89 = .ok (.iconst 1, 1) := dk_4 (dk_at dksX8_isOrder_3 19 rfl rfl)
theorem dX8_isOrder_90 : decode cX8_isOrder 90 = .ok (.goto 4, 3) := dk_167 0 4 (dk_at dksX8_isOrder_3 20 rfl rfl)
theorem dX8_isOrder_93 : decode cX8_isOrder 93 = .ok (.iconst 0, 1) := dk_3 (dk_at dksX8_isOrder_3 23 rfl rfl)
theorem dX8_isOrder_94 : decode cX8_isOrder 94 = .ok (.ireturn, 1) := dk_172 (dk_at dksX8_isOrder_4 0 rfl rfl)
abbrev cX8_night : ByteArray := prog_16_method_51_code
def yX8_night : MethodName := ⟨RX8, "night", "()I"⟩
def dkwX8_night_0 : List UInt8 := [42, 180, 0, 126, 17, 3, 231, 160, 0, 6, 16, 253, 172, 42, 182, 1, 35, 42, 182, 1, 38, 172]
abbrev dktX8_night_0 : List UInt8 := dkwX8_night_0 ++ []
theorem dksX8_night_0 : cX8_night.data.toList.drop 0 = dktX8_night_0 := by decide +kernel
theorem dX8_night_0 : decode cX8_night 0 = .ok (.aload_n 0, 1) := dk_42 (dk_at dksX8_night_0 0 rfl rfl)
theorem dX8_night_1 : decode cX8_night 1 = .ok (.getfield 126, 3) := dk_180 0 126 (dk_at dksX8_night_0 1 rfl rfl)
theorem dX8_night_4 : decode cX8_night 4 = .ok (.sipush 999, 3) := dk_17 3 231 (dk_at dksX8_night_0 4 rfl rfl)
theorem dX8_night_7 : decode cX8_night 7 = .ok (.if_icmp .ne 6, 3) := dk_160 0 6 (dk_at dksX8_night_0 7 rfl rfl)
theorem dX8_night_10 : decode cX8_night 10 = .ok (.bipush (-3), 2) := dk_16 253 (dk_at dksX8_night_0 10 rfl rfl)
theorem dX8_night_12 : decode cX8_night 12 = .ok (.ireturn, 1) := dk_172 (dk_at dksX8_night_0 12 rfl rfl)
theorem dX8_night_13 : decode cX8_night 13 = .ok (.aload_n 0, 1) := dk_42 (dk_at dksX8_night_0 13 rfl rfl)
theorem dX8_night_14 : decode cX8_night 14 = .ok (.invokevirtual 291, 3) := dk_182 1 35 (dk_at dksX8_night_0 14 rfl rfl)
theorem dX8_night_17 : decode cX8_night 17 = .ok (.aload_n 0, 1) := dk_42 (dk_at dksX8_night_0 17 rfl rfl)
theorem dX8_night_18 : decode cX8_night 18 = .ok (.invokevirtual 294, 3) := dk_182 1 38 (dk_at dksX8_night_0 18 rfl rfl)
theorem dX8_night_21 : decode cX8_night 21 = .ok (.ireturn, 1) := dk_172 (dk_at dksX8_night_0 21 rfl rfl)
abbrev cX8_passes : ByteArray := prog_16_method_50_code
def yX8_passes : MethodName := ⟨RX8, "passes", "()V"⟩
def dkwX8_passes_5 : List UInt8 := [167, 255, 223, 42, 89, 180, 0, 126, 4, 96, 181, 0, 126, 177]
abbrev dktX8_passes_5 : List UInt8 := dkwX8_passes_5 ++ []
def dkwX8_passes_4 : List UInt8 := [42, 180, 0, 26, 27, 46, 42, 180, 0, 50, 27, 46, 96, 3, 16, 24, 184, 1, 11, 79, 132, 1, 1]
abbrev dktX8_passes_4 : List UInt8 := dkwX8_passes_4 ++ dktX8_passes_5
def dkwX8_passes_3 : List UInt8 := [180, 0, 47, 27, 46, 79, 132, 1, 1, 167, 255, 229, 3, 60, 27, 7, 162, 0, 34, 42, 180, 0, 26, 27]
abbrev dktX8_passes_3 : List UInt8 := dkwX8_passes_3 ++ dktX8_passes_4
def dkwX8_passes_2 : List UInt8 := [167, 255, 237, 3, 60, 27, 42, 180, 0, 88, 162, 0, 25, 42, 180, 0, 32, 5, 27, 104, 4, 96, 42]
abbrev dktX8_passes_2 : List UInt8 := dkwX8_passes_2 ++ dktX8_passes_3
def dkwX8_passes_1 : List UInt8 := [167, 255, 234, 3, 60, 27, 7, 162, 0, 20, 42, 180, 0, 50, 27, 42, 27, 182, 0, 147, 79, 132, 1, 1]
abbrev dktX8_passes_1 : List UInt8 := dkwX8_passes_1 ++ dktX8_passes_2
def dkwX8_passes_0 : List UInt8 := [3, 60, 27, 42, 180, 0, 88, 162, 0, 20, 42, 180, 0, 47, 27, 42, 27, 182, 0, 138, 79, 132, 1, 1]
abbrev dktX8_passes_0 : List UInt8 := dkwX8_passes_0 ++ dktX8_passes_1
theorem dksX8_passes_0 : cX8_passes.data.toList.drop 0 = dktX8_passes_0 := by decide +kernel
theorem dksX8_passes_1 : cX8_passes.data.toList.drop 24 = dktX8_passes_1 := dk_seg dksX8_passes_0 24 rfl rfl
theorem dksX8_passes_2 : cX8_passes.data.toList.drop 48 = dktX8_passes_2 := dk_seg dksX8_passes_1 24 rfl rfl
theorem dksX8_passes_3 : cX8_passes.data.toList.drop 71 = dktX8_passes_3 := dk_seg dksX8_passes_2 23 rfl rfl
theorem dksX8_passes_4 : cX8_passes.data.toList.drop 95 = dktX8_passes_4 := dk_seg dksX8_passes_3 24 rfl rfl
theorem dksX8_passes_5 : cX8_passes.data.toList.drop 118 = dktX8_passes_5 := dk_seg dksX8_passes_4 23 rfl rfl
theorem dX8_passes_0 : decode cX8_passes 0 = .ok (.iconst 0, 1) := dk_3 (dk_at dksX8_passes_0 0 rfl rfl)
theorem dX8_passes_1 : decode cX8_passes 1 = .ok (.istore_n 1, 1) := dk_60 (dk_at dksX8_passes_0 1 rfl rfl)
theorem dX8_passes_2 : decode cX8_passes 2 = .ok (.iload_n 1, 1) := dk_27 (dk_at dksX8_passes_0 2 rfl rfl)
theorem dX8_passes_3 : decode cX8_passes 3 = .ok (.aload_n 0, 1) := dk_42 (dk_at dksX8_passes_0 3 rfl rfl)
theorem dX8_passes_4 : decode cX8_passes 4 = .ok (.getfield 88, 3) := dk_180 0 88 (dk_at dksX8_passes_0 4 rfl rfl)
theorem dX8_passes_7 : decode cX8_passes 7 = .ok (.if_icmp .ge 20, 3) := dk_162 0 20 (dk_at dksX8_passes_0 7 rfl rfl)
theorem dX8_passes_10 : decode cX8_passes 10 = .ok (.aload_n 0, 1) := dk_42 (dk_at dksX8_passes_0 10 rfl rfl)
theorem dX8_passes_11 : decode cX8_passes 11 = .ok (.getfield 47, 3) := dk_180 0 47 (dk_at dksX8_passes_0 11 rfl rfl)
theorem dX8_passes_14 : decode cX8_passes 14 = .ok (.iload_n 1, 1) := dk_27 (dk_at dksX8_passes_0 14 rfl rfl)
theorem dX8_passes_15 : decode cX8_passes 15 = .ok (.aload_n 0, 1) := dk_42 (dk_at dksX8_passes_0 15 rfl rfl)
theorem dX8_passes_16 : decode cX8_passes 16 = .ok (.iload_n 1, 1) := dk_27 (dk_at dksX8_passes_0 16 rfl rfl)
theorem dX8_passes_17 : decode cX8_passes 17 = .ok (.invokevirtual 138, 3) := dk_182 0 138 (dk_at dksX8_passes_0 17 rfl rfl)
theorem dX8_passes_20 : decode cX8_passes 20 = .ok (.iastore, 1) := dk_79 (dk_at dksX8_passes_0 20 rfl rfl)
theorem dX8_passes_21 : decode cX8_passes 21 = .ok (.iinc 1 1, 3) := dk_132 1 1 (dk_at dksX8_passes_0 21 rfl rfl)
theorem dX8_passes_24 : decode cX8_passes 24 = .ok (.goto (-22), 3) := dk_167 255 234 (dk_at dksX8_passes_1 0 rfl rfl)
theorem dX8_passes_27 : decode cX8_passes 27 = .ok (.iconst 0, 1) := dk_3 (dk_at dksX8_passes_1 3 rfl rfl)
theorem dX8_passes_28 : decode cX8_passes 28 = .ok (.istore_n 1, 1) := dk_60 (dk_at dksX8_passes_1 4 rfl rfl)
theorem dX8_passes_29 : decode cX8_passes 29 = .ok (.iload_n 1, 1) := dk_27 (dk_at dksX8_passes_1 5 rfl rfl)
theorem dX8_passes_30 : decode cX8_passes 30 = .ok (.iconst 4, 1) := dk_7 (dk_at dksX8_passes_1 6 rfl rfl)
theorem dX8_passes_31 : decode cX8_passes 31 = .ok (.if_icmp .ge 20, 3) := dk_162 0 20 (dk_at dksX8_passes_1 7 rfl rfl)
theorem dX8_passes_34 : decode cX8_passes 34 = .ok (.aload_n 0, 1) := dk_42 (dk_at dksX8_passes_1 10 rfl rfl)
theorem dX8_passes_35 : decode cX8_passes 35 = .ok (.getfield 50, 3) := dk_180 0 50 (dk_at dksX8_passes_1 11 rfl rfl)
theorem dX8_passes_38 : decode cX8_passes 38 = .ok (.iload_n 1, 1) := dk_27 (dk_at dksX8_passes_1 14 rfl rfl)
theorem dX8_passes_39 : decode cX8_passes 39 = .ok (.aload_n 0, 1) := dk_42 (dk_at dksX8_passes_1 15 rfl rfl)
theorem dX8_passes_40 : decode cX8_passes 40 = .ok (.iload_n 1, 1) := dk_27 (dk_at dksX8_passes_1 16 rfl rfl)
theorem dX8_passes_41 : decode cX8_passes 41 = .ok (.invokevirtual 147, 3) := dk_182 0 147 (dk_at dksX8_passes_1 17 rfl rfl)
theorem dX8_passes_44 : decode cX8_passes 44 = .ok (.iastore, 1) := dk_79 (dk_at dksX8_passes_1 20 rfl rfl)
theorem dX8_passes_45 : decode cX8_passes 45 = .ok (.iinc 1 1, 3) := dk_132 1 1 (dk_at dksX8_passes_1 21 rfl rfl)
theorem dX8_passes_48 : decode cX8_passes 48 = .ok (.goto (-19), 3) := dk_167 255 237 (dk_at dksX8_passes_2 0 rfl rfl)
theorem dX8_passes_51 : decode cX8_passes 51 = .ok (.iconst 0, 1) := dk_3 (dk_at dksX8_passes_2 3 rfl rfl)
theorem dX8_passes_52 : decode cX8_passes 52 = .ok (.istore_n 1, 1) := dk_60 (dk_at dksX8_passes_2 4 rfl rfl)
theorem dX8_passes_53 : decode cX8_passes 53 = .ok (.iload_n 1, 1) := dk_27 (dk_at dksX8_passes_2 5 rfl rfl)
theorem dX8_passes_54 : decode cX8_passes 54 = .ok (.aload_n 0, 1) := dk_42 (dk_at dksX8_passes_2 6 rfl rfl)
theorem dX8_passes_55 : decode cX8_passes 55 = .ok (.getfield 88, 3) := dk_180 0 88 (dk_at dksX8_passes_2 7 rfl rfl)
theorem dX8_passes_58 : decode cX8_passes 58 = .ok (.if_icmp .ge 25, 3) := dk_162 0 25 (dk_at dksX8_passes_2 10 rfl rfl)
theorem dX8_passes_61 : decode cX8_passes 61 = .ok (.aload_n 0, 1) := dk_42 (dk_at dksX8_passes_2 13 rfl rfl)
theorem dX8_passes_62 : decode cX8_passes 62 = .ok (.getfield 32, 3) := dk_180 0 32 (dk_at dksX8_passes_2 14 rfl rfl)
theorem dX8_passes_65 : decode cX8_passes 65 = .ok (.iconst 2, 1) := dk_5 (dk_at dksX8_passes_2 17 rfl rfl)
theorem dX8_passes_66 : decode cX8_passes 66 = .ok (.iload_n 1, 1) := dk_27 (dk_at dksX8_passes_2 18 rfl rfl)
theorem dX8_passes_67 : decode cX8_passes 67 = .ok (.imul, 1) := dk_104 (dk_at dksX8_passes_2 19 rfl rfl)
theorem dX8_passes_68 : decode cX8_passes 68 = .ok (.iconst 1, 1) := dk_4 (dk_at dksX8_passes_2 20 rfl rfl)
theorem dX8_passes_69 : decode cX8_passes 69 = .ok (.iadd, 1) := dk_96 (dk_at dksX8_passes_2 21 rfl rfl)
theorem dX8_passes_70 : decode cX8_passes 70 = .ok (.aload_n 0, 1) := dk_42 (dk_at dksX8_passes_2 22 rfl rfl)
theorem dX8_passes_71 : decode cX8_passes 71 = .ok (.getfield 47, 3) := dk_180 0 47 (dk_at dksX8_passes_3 0 rfl rfl)
theorem dX8_passes_74 : decode cX8_passes 74 = .ok (.iload_n 1, 1) := dk_27 (dk_at dksX8_passes_3 3 rfl rfl)
theorem dX8_passes_75 : decode cX8_passes 75 = .ok (.iaload, 1) := dk_46 (dk_at dksX8_passes_3 4 rfl rfl)
theorem dX8_passes_76 : decode cX8_passes 76 = .ok (.iastore, 1) := dk_79 (dk_at dksX8_passes_3 5 rfl rfl)
theorem dX8_passes_77 : decode cX8_passes 77 = .ok (.iinc 1 1, 3) := dk_132 1 1 (dk_at dksX8_passes_3 6 rfl rfl)
theorem dX8_passes_80 : decode cX8_passes 80 = .ok (.goto (-27), 3) := dk_167 255 229 (dk_at dksX8_passes_3 9 rfl rfl)
theorem dX8_passes_83 : decode cX8_passes 83 = .ok (.iconst 0, 1) := dk_3 (dk_at dksX8_passes_3 12 rfl rfl)
theorem dX8_passes_84 : decode cX8_passes 84 = .ok (.istore_n 1, 1) := dk_60 (dk_at dksX8_passes_3 13 rfl rfl)
theorem dX8_passes_85 : decode cX8_passes 85 = .ok (.iload_n 1, 1) := dk_27 (dk_at dksX8_passes_3 14 rfl rfl)
theorem dX8_passes_86 : decode cX8_passes 86 = .ok (.iconst 4, 1) := dk_7 (dk_at dksX8_passes_3 15 rfl rfl)
theorem dX8_passes_87 : decode cX8_passes 87 = .ok (.if_icmp .ge 34, 3) := dk_162 0 34 (dk_at dksX8_passes_3 16 rfl rfl)
theorem dX8_passes_90 : decode cX8_passes 90 = .ok (.aload_n 0, 1) := dk_42 (dk_at dksX8_passes_3 19 rfl rfl)
theorem dX8_passes_91 : decode cX8_passes 91 = .ok (.getfield 26, 3) := dk_180 0 26 (dk_at dksX8_passes_3 20 rfl rfl)
theorem dX8_passes_94 : decode cX8_passes 94 = .ok (.iload_n 1, 1) := dk_27 (dk_at dksX8_passes_3 23 rfl rfl)
theorem dX8_passes_95 : decode cX8_passes 95 = .ok (.aload_n 0, 1) := dk_42 (dk_at dksX8_passes_4 0 rfl rfl)
theorem dX8_passes_96 : decode cX8_passes 96 = .ok (.getfield 26, 3) := dk_180 0 26 (dk_at dksX8_passes_4 1 rfl rfl)
theorem dX8_passes_99 : decode cX8_passes 99 = .ok (.iload_n 1, 1) := dk_27 (dk_at dksX8_passes_4 4 rfl rfl)
theorem dX8_passes_100 : decode cX8_passes 100 = .ok (.iaload, 1) := dk_46 (dk_at dksX8_passes_4 5 rfl rfl)
theorem dX8_passes_101 : decode cX8_passes 101 = .ok (.aload_n 0, 1) := dk_42 (dk_at dksX8_passes_4 6 rfl rfl)
theorem dX8_passes_102 : decode cX8_passes 102 = .ok (.getfield 50, 3) := dk_180 0 50 (dk_at dksX8_passes_4 7 rfl rfl)
theorem dX8_passes_105 : decode cX8_passes 105 = .ok (.iload_n 1, 1) := dk_27 (dk_at dksX8_passes_4 10 rfl rfl)
theorem dX8_passes_106 : decode cX8_passes 106 = .ok (.iaload, 1) := dk_46 (dk_at dksX8_passes_4 11 rfl rfl)
theorem dX8_passes_107 : decode cX8_passes 107 = .ok (.iadd, 1) := dk_96 (dk_at dksX8_passes_4 12 rfl rfl)
theorem dX8_passes_108 : decode cX8_passes 108 = .ok (.iconst 0, 1) := dk_3 (dk_at dksX8_passes_4 13 rfl rfl)
theorem dX8_passes_109 : decode cX8_passes 109 = .ok (.bipush 24, 2) := dk_16 24 (dk_at dksX8_passes_4 14 rfl rfl)
theorem dX8_passes_111 : decode cX8_passes 111 = .ok (.invokestatic 267, 3) := dk_184 1 11 (dk_at dksX8_passes_4 16 rfl rfl)
theorem dX8_passes_114 : decode cX8_passes 114 = .ok (.iastore, 1) := dk_79 (dk_at dksX8_passes_4 19 rfl rfl)
theorem dX8_passes_115 : decode cX8_passes 115 = .ok (.iinc 1 1, 3) := dk_132 1 1 (dk_at dksX8_passes_4 20 rfl rfl)
theorem dX8_passes_118 : decode cX8_passes 118 = .ok (.goto (-33), 3) := dk_167 255 223 (dk_at dksX8_passes_5 0 rfl rfl)
theorem dX8_passes_121 : decode cX8_passes 121 = .ok (.aload_n 0, 1) := dk_42 (dk_at dksX8_passes_5 3 rfl rfl)
theorem dX8_passes_122 : decode cX8_passes 122 = .ok (.dup, 1) := dk_89 (dk_at dksX8_passes_5 4 rfl rfl)
theorem dX8_passes_123 : decode cX8_passes 123 = .ok (.getfield 126, 3) := dk_180 0 126 (dk_at dksX8_passes_5 5 rfl rfl)
theorem dX8_passes_126 : decode cX8_passes 126 = .ok (.iconst 1, 1) := dk_4 (dk_at dksX8_passes_5 8 rfl rfl)
theorem dX8_passes_127 : decode cX8_passes 127 = .ok (.iadd, 1) := dk_96 (dk_at dksX8_passes_5 9 rfl rfl)
theorem dX8_passes_128 : decode cX8_passes 128 = .ok (.putfield 126, 3) := dk_181 0 126 (dk_at dksX8_passes_5 10 rfl rfl)
theorem dX8_passes_131 : decode cX8_passes 131 = .ok (.return_, 1) := dk_177 (dk_at dksX8_passes_5 13 rfl rfl)
abbrev cX8_gapsAll : ByteArray := prog_16_method_49_code
def yX8_gapsAll : MethodName := ⟨RX8, "gapsAll", "()I"⟩
def dkwX8_gapsAll_0 : List UInt8 := [42, 3, 182, 0, 103, 42, 4, 182, 0, 103, 96, 42, 5, 182, 0, 103, 96, 42, 6, 182, 0, 103, 96, 172]
abbrev dktX8_gapsAll_0 : List UInt8 := dkwX8_gapsAll_0 ++ []
theorem dksX8_gapsAll_0 : cX8_gapsAll.data.toList.drop 0 = dktX8_gapsAll_0 := by decide +kernel
theorem dX8_gapsAll_0 : decode cX8_gapsAll 0 = .ok (.aload_n 0, 1) := dk_42 (dk_at dksX8_gapsAll_0 0 rfl rfl)
theorem dX8_gapsAll_1 : decode cX8_gapsAll 1 = .ok (.iconst 0, 1) := dk_3 (dk_at dksX8_gapsAll_0 1 rfl rfl)
theorem dX8_gapsAll_2 : decode cX8_gapsAll 2 = .ok (.invokevirtual 103, 3) := dk_182 0 103 (dk_at dksX8_gapsAll_0 2 rfl rfl)
theorem dX8_gapsAll_5 : decode cX8_gapsAll 5 = .ok (.aload_n 0, 1) := dk_42 (dk_at dksX8_gapsAll_0 5 rfl rfl)
theorem dX8_gapsAll_6 : decode cX8_gapsAll 6 = .ok (.iconst 1, 1) := dk_4 (dk_at dksX8_gapsAll_0 6 rfl rfl)
theorem dX8_gapsAll_7 : decode cX8_gapsAll 7 = .ok (.invokevirtual 103, 3) := dk_182 0 103 (dk_at dksX8_gapsAll_0 7 rfl rfl)
theorem dX8_gapsAll_10 : decode cX8_gapsAll 10 = .ok (.iadd, 1) := dk_96 (dk_at dksX8_gapsAll_0 10 rfl rfl)
theorem dX8_gapsAll_11 : decode cX8_gapsAll 11 = .ok (.aload_n 0, 1) := dk_42 (dk_at dksX8_gapsAll_0 11 rfl rfl)
theorem dX8_gapsAll_12 : decode cX8_gapsAll 12 = .ok (.iconst 2, 1) := dk_5 (dk_at dksX8_gapsAll_0 12 rfl rfl)
theorem dX8_gapsAll_13 : decode cX8_gapsAll 13 = .ok (.invokevirtual 103, 3) := dk_182 0 103 (dk_at dksX8_gapsAll_0 13 rfl rfl)
theorem dX8_gapsAll_16 : decode cX8_gapsAll 16 = .ok (.iadd, 1) := dk_96 (dk_at dksX8_gapsAll_0 16 rfl rfl)
theorem dX8_gapsAll_17 : decode cX8_gapsAll 17 = .ok (.aload_n 0, 1) := dk_42 (dk_at dksX8_gapsAll_0 17 rfl rfl)
theorem dX8_gapsAll_18 : decode cX8_gapsAll 18 = .ok (.iconst 3, 1) := dk_6 (dk_at dksX8_gapsAll_0 18 rfl rfl)
theorem dX8_gapsAll_19 : decode cX8_gapsAll 19 = .ok (.invokevirtual 103, 3) := dk_182 0 103 (dk_at dksX8_gapsAll_0 19 rfl rfl)
theorem dX8_gapsAll_22 : decode cX8_gapsAll 22 = .ok (.iadd, 1) := dk_96 (dk_at dksX8_gapsAll_0 22 rfl rfl)
theorem dX8_gapsAll_23 : decode cX8_gapsAll 23 = .ok (.ireturn, 1) := dk_172 (dk_at dksX8_gapsAll_0 23 rfl rfl)
abbrev cX8_tries : ByteArray := prog_16_method_55_code
def yX8_tries : MethodName := ⟨RX8, "tries", "(III)I"⟩
def dkwX8_tries_1 : List UInt8 := [153, 0, 13, 42, 27, 28, 29, 182, 1, 47, 167, 0, 5, 16, 156, 172]
abbrev dktX8_tries_1 : List UInt8 := dkwX8_tries_1 ++ []
def dkwX8_tries_0 : List UInt8 := [42, 27, 182, 0, 112, 153, 0, 32, 28, 184, 0, 97, 153, 0, 25, 29, 133, 9, 20, 0, 95, 184, 0, 91]
abbrev dktX8_tries_0 : List UInt8 := dkwX8_tries_0 ++ dktX8_tries_1
theorem dksX8_tries_0 : cX8_tries.data.toList.drop 0 = dktX8_tries_0 := by decide +kernel
theorem dksX8_tries_1 : cX8_tries.data.toList.drop 24 = dktX8_tries_1 := dk_seg dksX8_tries_0 24 rfl rfl
theorem dX8_tries_0 : decode cX8_tries 0 = .ok (.aload_n 0, 1) := dk_42 (dk_at dksX8_tries_0 0 rfl rfl)
theorem dX8_tries_1 : decode cX8_tries 1 = .ok (.iload_n 1, 1) := dk_27 (dk_at dksX8_tries_0 1 rfl rfl)
theorem dX8_tries_2 : decode cX8_tries 2 = .ok (.invokevirtual 112, 3) := dk_182 0 112 (dk_at dksX8_tries_0 2 rfl rfl)
theorem dX8_tries_5 : decode cX8_tries 5 = .ok (.ifCond .eq 32, 3) := dk_153 0 32 (dk_at dksX8_tries_0 5 rfl rfl)
theorem dX8_tries_8 : decode cX8_tries 8 = .ok (.iload_n 2, 1) := dk_28 (dk_at dksX8_tries_0 8 rfl rfl)
theorem dX8_tries_9 : decode cX8_tries 9 = .ok (.invokestatic 97, 3) := dk_184 0 97 (dk_at dksX8_tries_0 9 rfl rfl)
theorem dX8_tries_12 : decode cX8_tries 12 = .ok (.ifCond .eq 25, 3) := dk_153 0 25 (dk_at dksX8_tries_0 12 rfl rfl)
theorem dX8_tries_15 : decode cX8_tries 15 = .ok (.iload_n 3, 1) := dk_29 (dk_at dksX8_tries_0 15 rfl rfl)
theorem dX8_tries_16 : decode cX8_tries 16 = .ok (.i2l, 1) := dk_133 (dk_at dksX8_tries_0 16 rfl rfl)
theorem dX8_tries_17 : decode cX8_tries 17 = .ok (.lconst 0, 1) := dk_9 (dk_at dksX8_tries_0 17 rfl rfl)
theorem dX8_tries_18 : decode cX8_tries 18 = .ok (.ldc2_w 95, 3) := dk_20 0 95 (dk_at dksX8_tries_0 18 rfl rfl)
theorem dX8_tries_21 : decode cX8_tries 21 = .ok (.invokestatic 91, 3) := dk_184 0 91 (dk_at dksX8_tries_0 21 rfl rfl)
theorem dX8_tries_24 : decode cX8_tries 24 = .ok (.ifCond .eq 13, 3) := dk_153 0 13 (dk_at dksX8_tries_1 0 rfl rfl)
theorem dX8_tries_27 : decode cX8_tries 27 = .ok (.aload_n 0, 1) := dk_42 (dk_at dksX8_tries_1 3 rfl rfl)
theorem dX8_tries_28 : decode cX8_tries 28 = .ok (.iload_n 1, 1) := dk_27 (dk_at dksX8_tries_1 4 rfl rfl)
theorem dX8_tries_29 : decode cX8_tries 29 = .ok (.iload_n 2, 1) := dk_28 (dk_at dksX8_tries_1 5 rfl rfl)
theorem dX8_tries_30 : decode cX8_tries 30 = .ok (.iload_n 3, 1) := dk_29 (dk_at dksX8_tries_1 6 rfl rfl)
theorem dX8_tries_31 : decode cX8_tries 31 = .ok (.invokevirtual 303, 3) := dk_182 1 47 (dk_at dksX8_tries_1 7 rfl rfl)
theorem dX8_tries_34 : decode cX8_tries 34 = .ok (.goto 5, 3) := dk_167 0 5 (dk_at dksX8_tries_1 10 rfl rfl)
theorem dX8_tries_37 : decode cX8_tries 37 = .ok (.bipush (-100), 2) := dk_16 156 (dk_at dksX8_tries_1 13 rfl rfl)
theorem dX8_tries_39 : decode cX8_tries 39 = .ok (.ireturn, 1) := dk_172 (dk_at dksX8_tries_1 15 rfl rfl)
abbrev cX8_triesOf : ByteArray := prog_16_method_54_code
def yX8_triesOf : MethodName := ⟨RX8, "triesOf", "(III)I"⟩
def dkwX8_triesOf_2 : List UInt8 := [96, 46, 167, 0, 8, 42, 28, 182, 0, 144, 54, 5, 42, 182, 1, 44, 21, 5, 172]
abbrev dktX8_triesOf_2 : List UInt8 := dkwX8_triesOf_2 ++ []
def dkwX8_triesOf_1 : List UInt8 := [160, 0, 11, 42, 28, 182, 0, 103, 167, 0, 26, 29, 5, 160, 0, 16, 42, 180, 0, 32, 5, 27, 104, 4]
abbrev dktX8_triesOf_1 : List UInt8 := dkwX8_triesOf_1 ++ dktX8_triesOf_2
def dkwX8_triesOf_0 : List UInt8 := [42, 182, 1, 41, 42, 27, 28, 182, 1, 29, 54, 4, 29, 154, 0, 8, 21, 4, 167, 0, 39, 29, 4]
abbrev dktX8_triesOf_0 : List UInt8 := dkwX8_triesOf_0 ++ dktX8_triesOf_1
theorem dksX8_triesOf_0 : cX8_triesOf.data.toList.drop 0 = dktX8_triesOf_0 := by decide +kernel
theorem dksX8_triesOf_1 : cX8_triesOf.data.toList.drop 23 = dktX8_triesOf_1 := dk_seg dksX8_triesOf_0 23 rfl rfl
theorem dksX8_triesOf_2 : cX8_triesOf.data.toList.drop 47 = dktX8_triesOf_2 := dk_seg dksX8_triesOf_1 24 rfl rfl
theorem dX8_triesOf_0 : decode cX8_triesOf 0 = .ok (.aload_n 0, 1) := dk_42 (dk_at dksX8_triesOf_0 0 rfl rfl)
theorem dX8_triesOf_1 : decode cX8_triesOf 1 = .ok (.invokevirtual 297, 3) := dk_182 1 41 (dk_at dksX8_triesOf_0 1 rfl rfl)
theorem dX8_triesOf_4 : decode cX8_triesOf 4 = .ok (.aload_n 0, 1) := dk_42 (dk_at dksX8_triesOf_0 4 rfl rfl)
theorem dX8_triesOf_5 : decode cX8_triesOf 5 = .ok (.iload_n 1, 1) := dk_27 (dk_at dksX8_triesOf_0 5 rfl rfl)
theorem dX8_triesOf_6 : decode cX8_triesOf 6 = .ok (.iload_n 2, 1) := dk_28 (dk_at dksX8_triesOf_0 6 rfl rfl)
theorem dX8_triesOf_7 : decode cX8_triesOf 7 = .ok (.invokevirtual 285, 3) := dk_182 1 29 (dk_at dksX8_triesOf_0 7 rfl rfl)
theorem dX8_triesOf_10 : decode cX8_triesOf 10 = .ok (.istore 4, 2) := dk_54 4 (dk_at dksX8_triesOf_0 10 rfl rfl)
theorem dX8_triesOf_12 : decode cX8_triesOf 12 = .ok (.iload_n 3, 1) := dk_29 (dk_at dksX8_triesOf_0 12 rfl rfl)
theorem dX8_triesOf_13 : decode cX8_triesOf 13 = .ok (.ifCond .ne 8, 3) := dk_154 0 8 (dk_at dksX8_triesOf_0 13 rfl rfl)
theorem dX8_triesOf_16 : decode cX8_triesOf 16 = .ok (.iload 4, 2) := dk_21 4 (dk_at dksX8_triesOf_0 16 rfl rfl)
theorem dX8_triesOf_18 : decode cX8_triesOf 18 = .ok (.goto 39, 3) := dk_167 0 39 (dk_at dksX8_triesOf_0 18 rfl rfl)
theorem dX8_triesOf_21 : decode cX8_triesOf 21 = .ok (.iload_n 3, 1) := dk_29 (dk_at dksX8_triesOf_0 21 rfl rfl)
theorem dX8_triesOf_22 : decode cX8_triesOf 22 = .ok (.iconst 1, 1) := dk_4 (dk_at dksX8_triesOf_0 22 rfl rfl)
theorem dX8_triesOf_23 : decode cX8_triesOf 23 = .ok (.if_icmp .ne 11, 3) := dk_160 0 11 (dk_at dksX8_triesOf_1 0 rfl rfl)
theorem dX8_triesOf_26 : decode cX8_triesOf 26 = .ok (.aload_n 0, 1) := dk_42 (dk_at dksX8_triesOf_1 3 rfl rfl)
theorem dX8_triesOf_27 : decode cX8_triesOf 27 = .ok (.iload_n 2, 1) := dk_28 (dk_at dksX8_triesOf_1 4 rfl rfl)
theorem dX8_triesOf_28 : decode cX8_triesOf 28 = .ok (.invokevirtual 103, 3) := dk_182 0 103 (dk_at dksX8_triesOf_1 5 rfl rfl)
theorem dX8_triesOf_31 : decode cX8_triesOf 31 = .ok (.goto 26, 3) := dk_167 0 26 (dk_at dksX8_triesOf_1 8 rfl rfl)
theorem dX8_triesOf_34 : decode cX8_triesOf 34 = .ok (.iload_n 3, 1) := dk_29 (dk_at dksX8_triesOf_1 11 rfl rfl)
theorem dX8_triesOf_35 : decode cX8_triesOf 35 = .ok (.iconst 2, 1) := dk_5 (dk_at dksX8_triesOf_1 12 rfl rfl)
theorem dX8_triesOf_36 : decode cX8_triesOf 36 = .ok (.if_icmp .ne 16, 3) := dk_160 0 16 (dk_at dksX8_triesOf_1 13 rfl rfl)
theorem dX8_triesOf_39 : decode cX8_triesOf 39 = .ok (.aload_n 0, 1) := dk_42 (dk_at dksX8_triesOf_1 16 rfl rfl)
theorem dX8_triesOf_40 : decode cX8_triesOf 40 = .ok (.getfield 32, 3) := dk_180 0 32 (dk_at dksX8_triesOf_1 17 rfl rfl)
theorem dX8_triesOf_43 : decode cX8_triesOf 43 = .ok (.iconst 2, 1) := dk_5 (dk_at dksX8_triesOf_1 20 rfl rfl)
theorem dX8_triesOf_44 : decode cX8_triesOf 44 = .ok (.iload_n 1, 1) := dk_27 (dk_at dksX8_triesOf_1 21 rfl rfl)
theorem dX8_triesOf_45 : decode cX8_triesOf 45 = .ok (.imul, 1) := dk_104 (dk_at dksX8_triesOf_1 22 rfl rfl)
theorem dX8_triesOf_46 : decode cX8_triesOf 46 = .ok (.iconst 1, 1) := dk_4 (dk_at dksX8_triesOf_1 23 rfl rfl)
theorem dX8_triesOf_47 : decode cX8_triesOf 47 = .ok (.iadd, 1) := dk_96 (dk_at dksX8_triesOf_2 0 rfl rfl)
theorem dX8_triesOf_48 : decode cX8_triesOf 48 = .ok (.iaload, 1) := dk_46 (dk_at dksX8_triesOf_2 1 rfl rfl)
theorem dX8_triesOf_49 : decode cX8_triesOf 49 = .ok (.goto 8, 3) := dk_167 0 8 (dk_at dksX8_triesOf_2 2 rfl rfl)
theorem dX8_triesOf_52 : decode cX8_triesOf 52 = .ok (.aload_n 0, 1) := dk_42 (dk_at dksX8_triesOf_2 5 rfl rfl)
theorem dX8_triesOf_53 : decode cX8_triesOf 53 = .ok (.iload_n 2, 1) := dk_28 (dk_at dksX8_triesOf_2 6 rfl rfl)
theorem dX8_triesOf_54 : decode cX8_triesOf 54 = .ok (.invokevirtual 144, 3) := dk_182 0 144 (dk_at dksX8_triesOf_2 7 rfl rfl)
theorem dX8_triesOf_57 : decode cX8_triesOf 57 = .ok (.istore 5, 2) := dk_54 5 (dk_at dksX8_triesOf_2 10 rfl rfl)
theorem dX8_triesOf_59 : decode cX8_triesOf 59 = .ok (.aload_n 0, 1) := dk_42 (dk_at dksX8_triesOf_2 12 rfl rfl)
theorem dX8_triesOf_60 : decode cX8_triesOf 60 = .ok (.invokevirtual 300, 3) := dk_182 1 44 (dk_at dksX8_triesOf_2 13 rfl rfl)
theorem dX8_triesOf_63 : decode cX8_triesOf 63 = .ok (.iload 5, 2) := dk_21 5 (dk_at dksX8_triesOf_2 16 rfl rfl)
theorem dX8_triesOf_65 : decode cX8_triesOf 65 = .ok (.ireturn, 1) := dk_172 (dk_at dksX8_triesOf_2 18 rfl rfl)
abbrev cX8_laysAside : ByteArray := prog_16_method_52_code
def yX8_laysAside : MethodName := ⟨RX8, "laysAside", "()V"⟩
def dkwX8_laysAside_2 : List UInt8 := [4, 96, 46, 79, 132, 1, 1, 167, 255, 203, 42, 180, 0, 53, 16, 15, 42, 180, 0, 126, 79, 177]
abbrev dktX8_laysAside_2 : List UInt8 := dkwX8_laysAside_2 ++ []
def dkwX8_laysAside_1 : List UInt8 := [27, 96, 42, 180, 0, 26, 27, 46, 79, 42, 180, 0, 53, 16, 10, 27, 96, 42, 180, 0, 32, 5, 27, 104]
abbrev dktX8_laysAside_1 : List UInt8 := dkwX8_laysAside_1 ++ dktX8_laysAside_2
def dkwX8_laysAside_0 : List UInt8 := [3, 60, 27, 8, 162, 0, 54, 42, 180, 0, 53, 27, 42, 180, 0, 23, 27, 46, 79, 42, 180, 0, 53, 8]
abbrev dktX8_laysAside_0 : List UInt8 := dkwX8_laysAside_0 ++ dktX8_laysAside_1
theorem dksX8_laysAside_0 : cX8_laysAside.data.toList.drop 0 = dktX8_laysAside_0 := by decide +kernel
theorem dksX8_laysAside_1 : cX8_laysAside.data.toList.drop 24 = dktX8_laysAside_1 := dk_seg dksX8_laysAside_0 24 rfl rfl
theorem dksX8_laysAside_2 : cX8_laysAside.data.toList.drop 48 = dktX8_laysAside_2 := dk_seg dksX8_laysAside_1 24 rfl rfl
theorem dX8_laysAside_0 : decode cX8_laysAside 0 = .ok (.iconst 0, 1) := dk_3 (dk_at dksX8_laysAside_0 0 rfl rfl)
theorem dX8_laysAside_1 : decode cX8_laysAside 1 = .ok (.istore_n 1, 1) := dk_60 (dk_at dksX8_laysAside_0 1 rfl rfl)
theorem dX8_laysAside_2 : decode cX8_laysAside 2 = .ok (.iload_n 1, 1) := dk_27 (dk_at dksX8_laysAside_0 2 rfl rfl)
theorem dX8_laysAside_3 : decode cX8_laysAside 3 = .ok (.iconst 5, 1) := dk_8 (dk_at dksX8_laysAside_0 3 rfl rfl)
theorem dX8_laysAside_4 : decode cX8_laysAside 4 = .ok (.if_icmp .ge 54, 3) := dk_162 0 54 (dk_at dksX8_laysAside_0 4 rfl rfl)
theorem dX8_laysAside_7 : decode cX8_laysAside 7 = .ok (.aload_n 0, 1) := dk_42 (dk_at dksX8_laysAside_0 7 rfl rfl)
theorem dX8_laysAside_8 : decode cX8_laysAside 8 = .ok (.getfield 53, 3) := dk_180 0 53 (dk_at dksX8_laysAside_0 8 rfl rfl)
theorem dX8_laysAside_11 : decode cX8_laysAside 11 = .ok (.iload_n 1, 1) := dk_27 (dk_at dksX8_laysAside_0 11 rfl rfl)
theorem dX8_laysAside_12 : decode cX8_laysAside 12 = .ok (.aload_n 0, 1) := dk_42 (dk_at dksX8_laysAside_0 12 rfl rfl)
theorem dX8_laysAside_13 : decode cX8_laysAside 13 = .ok (.getfield 23, 3) := dk_180 0 23 (dk_at dksX8_laysAside_0 13 rfl rfl)
theorem dX8_laysAside_16 : decode cX8_laysAside 16 = .ok (.iload_n 1, 1) := dk_27 (dk_at dksX8_laysAside_0 16 rfl rfl)
theorem dX8_laysAside_17 : decode cX8_laysAside 17 = .ok (.iaload, 1) := dk_46 (dk_at dksX8_laysAside_0 17 rfl rfl)
theorem dX8_laysAside_18 : decode cX8_laysAside 18 = .ok (.iastore, 1) := dk_79 (dk_at dksX8_laysAside_0 18 rfl rfl)
theorem dX8_laysAside_19 : decode cX8_laysAside 19 = .ok (.aload_n 0, 1) := dk_42 (dk_at dksX8_laysAside_0 19 rfl rfl)
theorem dX8_laysAside_20 : decode cX8_laysAside 20 = .ok (.getfield 53, 3) := dk_180 0 53 (dk_at dksX8_laysAside_0 20 rfl rfl)
theorem dX8_laysAside_23 : decode cX8_laysAside 23 = .ok (.iconst 5, 1) := dk_8 (dk_at dksX8_laysAside_0 23 rfl rfl)
theorem dX8_laysAside_24 : decode cX8_laysAside 24 = .ok (.iload_n 1, 1) := dk_27 (dk_at dksX8_laysAside_1 0 rfl rfl)
theorem dX8_laysAside_25 : decode cX8_laysAside 25 = .ok (.iadd, 1) := dk_96 (dk_at dksX8_laysAside_1 1 rfl rfl)
theorem dX8_laysAside_26 : decode cX8_laysAside 26 = .ok (.aload_n 0, 1) := dk_42 (dk_at dksX8_laysAside_1 2 rfl rfl)
theorem dX8_laysAside_27 : decode cX8_laysAside 27 = .ok (.getfield 26, 3) := dk_180 0 26 (dk_at dksX8_laysAside_1 3 rfl rfl)
theorem dX8_laysAside_30 : decode cX8_laysAside 30 = .ok (.iload_n 1, 1) := dk_27 (dk_at dksX8_laysAside_1 6 rfl rfl)
theorem dX8_laysAside_31 : decode cX8_laysAside 31 = .ok (.iaload, 1) := dk_46 (dk_at dksX8_laysAside_1 7 rfl rfl)
theorem dX8_laysAside_32 : decode cX8_laysAside 32 = .ok (.iastore, 1) := dk_79 (dk_at dksX8_laysAside_1 8 rfl rfl)
theorem dX8_laysAside_33 : decode cX8_laysAside 33 = .ok (.aload_n 0, 1) := dk_42 (dk_at dksX8_laysAside_1 9 rfl rfl)
theorem dX8_laysAside_34 : decode cX8_laysAside 34 = .ok (.getfield 53, 3) := dk_180 0 53 (dk_at dksX8_laysAside_1 10 rfl rfl)
theorem dX8_laysAside_37 : decode cX8_laysAside 37 = .ok (.bipush 10, 2) := dk_16 10 (dk_at dksX8_laysAside_1 13 rfl rfl)
theorem dX8_laysAside_39 : decode cX8_laysAside 39 = .ok (.iload_n 1, 1) := dk_27 (dk_at dksX8_laysAside_1 15 rfl rfl)
theorem dX8_laysAside_40 : decode cX8_laysAside 40 = .ok (.iadd, 1) := dk_96 (dk_at dksX8_laysAside_1 16 rfl rfl)
theorem dX8_laysAside_41 : decode cX8_laysAside 41 = .ok (.aload_n 0, 1) := dk_42 (dk_at dksX8_laysAside_1 17 rfl rfl)
theorem dX8_laysAside_42 : decode cX8_laysAside 42 = .ok (.getfield 32, 3) := dk_180 0 32 (dk_at dksX8_laysAside_1 18 rfl rfl)
theorem dX8_laysAside_45 : decode cX8_laysAside 45 = .ok (.iconst 2, 1) := dk_5 (dk_at dksX8_laysAside_1 21 rfl rfl)
theorem dX8_laysAside_46 : decode cX8_laysAside 46 = .ok (.iload_n 1, 1) := dk_27 (dk_at dksX8_laysAside_1 22 rfl rfl)
theorem dX8_laysAside_47 : decode cX8_laysAside 47 = .ok (.imul, 1) := dk_104 (dk_at dksX8_laysAside_1 23 rfl rfl)
theorem dX8_laysAside_48 : decode cX8_laysAside 48 = .ok (.iconst 1, 1) := dk_4 (dk_at dksX8_laysAside_2 0 rfl rfl)
theorem dX8_laysAside_49 : decode cX8_laysAside 49 = .ok (.iadd, 1) := dk_96 (dk_at dksX8_laysAside_2 1 rfl rfl)
theorem dX8_laysAside_50 : decode cX8_laysAside 50 = .ok (.iaload, 1) := dk_46 (dk_at dksX8_laysAside_2 2 rfl rfl)
theorem dX8_laysAside_51 : decode cX8_laysAside 51 = .ok (.iastore, 1) := dk_79 (dk_at dksX8_laysAside_2 3 rfl rfl)
theorem dX8_laysAside_52 : decode cX8_laysAside 52 = .ok (.iinc 1 1, 3) := dk_132 1 1 (dk_at dksX8_laysAside_2 4 rfl rfl)
theorem dX8_laysAside_55 : decode cX8_laysAside 55 = .ok (.goto (-53), 3) := dk_167 255 203 (dk_at dksX8_laysAside_2 7 rfl rfl)
theorem dX8_laysAside_58 : decode cX8_laysAside 58 = .ok (.aload_n 0, 1) := dk_42 (dk_at dksX8_laysAside_2 10 rfl rfl)
theorem dX8_laysAside_59 : decode cX8_laysAside 59 = .ok (.getfield 53, 3) := dk_180 0 53 (dk_at dksX8_laysAside_2 11 rfl rfl)
theorem dX8_laysAside_62 : decode cX8_laysAside 62 = .ok (.bipush 15, 2) := dk_16 15 (dk_at dksX8_laysAside_2 14 rfl rfl)
theorem dX8_laysAside_64 : decode cX8_laysAside 64 = .ok (.aload_n 0, 1) := dk_42 (dk_at dksX8_laysAside_2 16 rfl rfl)
theorem dX8_laysAside_65 : decode cX8_laysAside 65 = .ok (.getfield 126, 3) := dk_180 0 126 (dk_at dksX8_laysAside_2 17 rfl rfl)
theorem dX8_laysAside_68 : decode cX8_laysAside 68 = .ok (.iastore, 1) := dk_79 (dk_at dksX8_laysAside_2 20 rfl rfl)
theorem dX8_laysAside_69 : decode cX8_laysAside 69 = .ok (.return_, 1) := dk_177 (dk_at dksX8_laysAside_2 21 rfl rfl)
abbrev cX8_laysBack : ByteArray := prog_16_method_53_code
def yX8_laysBack : MethodName := ⟨RX8, "laysBack", "()V"⟩
def dkwX8_laysBack_2 : List UInt8 := [27, 96, 46, 79, 132, 1, 1, 167, 255, 203, 42, 42, 180, 0, 53, 16, 15, 46, 181, 0, 126, 177]
abbrev dktX8_laysBack_2 : List UInt8 := dkwX8_laysBack_2 ++ []
def dkwX8_laysBack_1 : List UInt8 := [42, 180, 0, 53, 8, 27, 96, 46, 79, 42, 180, 0, 32, 5, 27, 104, 4, 96, 42, 180, 0, 53, 16, 10]
abbrev dktX8_laysBack_1 : List UInt8 := dkwX8_laysBack_1 ++ dktX8_laysBack_2
def dkwX8_laysBack_0 : List UInt8 := [3, 60, 27, 8, 162, 0, 54, 42, 180, 0, 23, 27, 42, 180, 0, 53, 27, 46, 79, 42, 180, 0, 26, 27]
abbrev dktX8_laysBack_0 : List UInt8 := dkwX8_laysBack_0 ++ dktX8_laysBack_1
theorem dksX8_laysBack_0 : cX8_laysBack.data.toList.drop 0 = dktX8_laysBack_0 := by decide +kernel
theorem dksX8_laysBack_1 : cX8_laysBack.data.toList.drop 24 = dktX8_laysBack_1 := dk_seg dksX8_laysBack_0 24 rfl rfl
theorem dksX8_laysBack_2 : cX8_laysBack.data.toList.drop 48 = dktX8_laysBack_2 := dk_seg dksX8_laysBack_1 24 rfl rfl
theorem dX8_laysBack_0 : decode cX8_laysBack 0 = .ok (.iconst 0, 1) := dk_3 (dk_at dksX8_laysBack_0 0 rfl rfl)
theorem dX8_laysBack_1 : decode cX8_laysBack 1 = .ok (.istore_n 1, 1) := dk_60 (dk_at dksX8_laysBack_0 1 rfl rfl)
theorem dX8_laysBack_2 : decode cX8_laysBack 2 = .ok (.iload_n 1, 1) := dk_27 (dk_at dksX8_laysBack_0 2 rfl rfl)
theorem dX8_laysBack_3 : decode cX8_laysBack 3 = .ok (.iconst 5, 1) := dk_8 (dk_at dksX8_laysBack_0 3 rfl rfl)
theorem dX8_laysBack_4 : decode cX8_laysBack 4 = .ok (.if_icmp .ge 54, 3) := dk_162 0 54 (dk_at dksX8_laysBack_0 4 rfl rfl)
theorem dX8_laysBack_7 : decode cX8_laysBack 7 = .ok (.aload_n 0, 1) := dk_42 (dk_at dksX8_laysBack_0 7 rfl rfl)
theorem dX8_laysBack_8 : decode cX8_laysBack 8 = .ok (.getfield 23, 3) := dk_180 0 23 (dk_at dksX8_laysBack_0 8 rfl rfl)
theorem dX8_laysBack_11 : decode cX8_laysBack 11 = .ok (.iload_n 1, 1) := dk_27 (dk_at dksX8_laysBack_0 11 rfl rfl)
theorem dX8_laysBack_12 : decode cX8_laysBack 12 = .ok (.aload_n 0, 1) := dk_42 (dk_at dksX8_laysBack_0 12 rfl rfl)
theorem dX8_laysBack_13 : decode cX8_laysBack 13 = .ok (.getfield 53, 3) := dk_180 0 53 (dk_at dksX8_laysBack_0 13 rfl rfl)
theorem dX8_laysBack_16 : decode cX8_laysBack 16 = .ok (.iload_n 1, 1) := dk_27 (dk_at dksX8_laysBack_0 16 rfl rfl)
theorem dX8_laysBack_17 : decode cX8_laysBack 17 = .ok (.iaload, 1) := dk_46 (dk_at dksX8_laysBack_0 17 rfl rfl)
theorem dX8_laysBack_18 : decode cX8_laysBack 18 = .ok (.iastore, 1) := dk_79 (dk_at dksX8_laysBack_0 18 rfl rfl)
theorem dX8_laysBack_19 : decode cX8_laysBack 19 = .ok (.aload_n 0, 1) := dk_42 (dk_at dksX8_laysBack_0 19 rfl rfl)
theorem dX8_laysBack_20 : decode cX8_laysBack 20 = .ok (.getfield 26, 3) := dk_180 0 26 (dk_at dksX8_laysBack_0 20 rfl rfl)
theorem dX8_laysBack_23 : decode cX8_laysBack 23 = .ok (.iload_n 1, 1) := dk_27 (dk_at dksX8_laysBack_0 23 rfl rfl)
theorem dX8_laysBack_24 : decode cX8_laysBack 24 = .ok (.aload_n 0, 1) := dk_42 (dk_at dksX8_laysBack_1 0 rfl rfl)
theorem dX8_laysBack_25 : decode cX8_laysBack 25 = .ok (.getfield 53, 3) := dk_180 0 53 (dk_at dksX8_laysBack_1 1 rfl rfl)
theorem dX8_laysBack_28 : decode cX8_laysBack 28 = .ok (.iconst 5, 1) := dk_8 (dk_at dksX8_laysBack_1 4 rfl rfl)
theorem dX8_laysBack_29 : decode cX8_laysBack 29 = .ok (.iload_n 1, 1) := dk_27 (dk_at dksX8_laysBack_1 5 rfl rfl)
theorem dX8_laysBack_30 : decode cX8_laysBack 30 = .ok (.iadd, 1) := dk_96 (dk_at dksX8_laysBack_1 6 rfl rfl)
theorem dX8_laysBack_31 : decode cX8_laysBack 31 = .ok (.iaload, 1) := dk_46 (dk_at dksX8_laysBack_1 7 rfl rfl)
theorem dX8_laysBack_32 : decode cX8_laysBack 32 = .ok (.iastore, 1) := dk_79 (dk_at dksX8_laysBack_1 8 rfl rfl)
theorem dX8_laysBack_33 : decode cX8_laysBack 33 = .ok (.aload_n 0, 1) := dk_42 (dk_at dksX8_laysBack_1 9 rfl rfl)
theorem dX8_laysBack_34 : decode cX8_laysBack 34 = .ok (.getfield 32, 3) := dk_180 0 32 (dk_at dksX8_laysBack_1 10 rfl rfl)
theorem dX8_laysBack_37 : decode cX8_laysBack 37 = .ok (.iconst 2, 1) := dk_5 (dk_at dksX8_laysBack_1 13 rfl rfl)
theorem dX8_laysBack_38 : decode cX8_laysBack 38 = .ok (.iload_n 1, 1) := dk_27 (dk_at dksX8_laysBack_1 14 rfl rfl)
theorem dX8_laysBack_39 : decode cX8_laysBack 39 = .ok (.imul, 1) := dk_104 (dk_at dksX8_laysBack_1 15 rfl rfl)
theorem dX8_laysBack_40 : decode cX8_laysBack 40 = .ok (.iconst 1, 1) := dk_4 (dk_at dksX8_laysBack_1 16 rfl rfl)
theorem dX8_laysBack_41 : decode cX8_laysBack 41 = .ok (.iadd, 1) := dk_96 (dk_at dksX8_laysBack_1 17 rfl rfl)
theorem dX8_laysBack_42 : decode cX8_laysBack 42 = .ok (.aload_n 0, 1) := dk_42 (dk_at dksX8_laysBack_1 18 rfl rfl)
theorem dX8_laysBack_43 : decode cX8_laysBack 43 = .ok (.getfield 53, 3) := dk_180 0 53 (dk_at dksX8_laysBack_1 19 rfl rfl)
theorem dX8_laysBack_46 : decode cX8_laysBack 46 = .ok (.bipush 10, 2) := dk_16 10 (dk_at dksX8_laysBack_1 22 rfl rfl)
theorem dX8_laysBack_48 : decode cX8_laysBack 48 = .ok (.iload_n 1, 1) := dk_27 (dk_at dksX8_laysBack_2 0 rfl rfl)
theorem dX8_laysBack_49 : decode cX8_laysBack 49 = .ok (.iadd, 1) := dk_96 (dk_at dksX8_laysBack_2 1 rfl rfl)
theorem dX8_laysBack_50 : decode cX8_laysBack 50 = .ok (.iaload, 1) := dk_46 (dk_at dksX8_laysBack_2 2 rfl rfl)
theorem dX8_laysBack_51 : decode cX8_laysBack 51 = .ok (.iastore, 1) := dk_79 (dk_at dksX8_laysBack_2 3 rfl rfl)
theorem dX8_laysBack_52 : decode cX8_laysBack 52 = .ok (.iinc 1 1, 3) := dk_132 1 1 (dk_at dksX8_laysBack_2 4 rfl rfl)
theorem dX8_laysBack_55 : decode cX8_laysBack 55 = .ok (.goto (-53), 3) := dk_167 255 203 (dk_at dksX8_laysBack_2 7 rfl rfl)
theorem dX8_laysBack_58 : decode cX8_laysBack 58 = .ok (.aload_n 0, 1) := dk_42 (dk_at dksX8_laysBack_2 10 rfl rfl)
theorem dX8_laysBack_59 : decode cX8_laysBack 59 = .ok (.aload_n 0, 1) := dk_42 (dk_at dksX8_laysBack_2 11 rfl rfl)
theorem dX8_laysBack_60 : decode cX8_laysBack 60 = .ok (.getfield 53, 3) := dk_180 0 53 (dk_at dksX8_laysBack_2 12 rfl rfl)
theorem dX8_laysBack_63 : decode cX8_laysBack 63 = .ok (.bipush 15, 2) := dk_16 15 (dk_at dksX8_laysBack_2 15 rfl rfl)
theorem dX8_laysBack_65 : decode cX8_laysBack 65 = .ok (.iaload, 1) := dk_46 (dk_at dksX8_laysBack_2 17 rfl rfl)
theorem dX8_laysBack_66 : decode cX8_laysBack 66 = .ok (.putfield 126, 3) := dk_181 0 126 (dk_at dksX8_laysBack_2 18 rfl rfl)
theorem dX8_laysBack_69 : decode cX8_laysBack 69 = .ok (.return_, 1) := dk_177 (dk_at dksX8_laysBack_2 21 rfl rfl)
abbrev cX8_nights : ByteArray := prog_16_method_57_code
def yX8_nights : MethodName := ⟨RX8, "nights", "(IIII)I"⟩
def dkwX8_nights_3 : List UInt8 := [182, 0, 103, 54, 5, 42, 182, 1, 44, 21, 5, 172]
abbrev dktX8_nights_3 : List UInt8 := dkwX8_nights_3 ++ []
def dkwX8_nights_2 : List UInt8 := [182, 1, 52, 21, 4, 154, 0, 16, 42, 180, 0, 32, 5, 27, 104, 4, 96, 46, 167, 0, 8, 42, 28]
abbrev dktX8_nights_2 : List UInt8 := dkwX8_nights_2 ++ dktX8_nights_3
def dkwX8_nights_1 : List UInt8 := [153, 0, 14, 21, 4, 133, 9, 10, 184, 0, 91, 154, 0, 6, 16, 254, 172, 42, 182, 1, 41, 42, 28, 29]
abbrev dktX8_nights_1 : List UInt8 := dkwX8_nights_1 ++ dktX8_nights_2
def dkwX8_nights_0 : List UInt8 := [42, 27, 182, 0, 112, 153, 0, 33, 28, 184, 0, 97, 153, 0, 26, 29, 133, 9, 20, 1, 50, 184, 0, 91]
abbrev dktX8_nights_0 : List UInt8 := dkwX8_nights_0 ++ dktX8_nights_1
theorem dksX8_nights_0 : cX8_nights.data.toList.drop 0 = dktX8_nights_0 := by decide +kernel
theorem dksX8_nights_1 : cX8_nights.data.toList.drop 24 = dktX8_nights_1 := dk_seg dksX8_nights_0 24 rfl rfl
theorem dksX8_nights_2 : cX8_nights.data.toList.drop 48 = dktX8_nights_2 := dk_seg dksX8_nights_1 24 rfl rfl
theorem dksX8_nights_3 : cX8_nights.data.toList.drop 71 = dktX8_nights_3 := dk_seg dksX8_nights_2 23 rfl rfl
theorem dX8_nights_0 : decode cX8_nights 0 = .ok (.aload_n 0, 1) := dk_42 (dk_at dksX8_nights_0 0 rfl rfl)
theorem dX8_nights_1 : decode cX8_nights 1 = .ok (.iload_n 1, 1) := dk_27 (dk_at dksX8_nights_0 1 rfl rfl)
theorem dX8_nights_2 : decode cX8_nights 2 = .ok (.invokevirtual 112, 3) := dk_182 0 112 (dk_at dksX8_nights_0 2 rfl rfl)
theorem dX8_nights_5 : decode cX8_nights 5 = .ok (.ifCond .eq 33, 3) := dk_153 0 33 (dk_at dksX8_nights_0 5 rfl rfl)
theorem dX8_nights_8 : decode cX8_nights 8 = .ok (.iload_n 2, 1) := dk_28 (dk_at dksX8_nights_0 8 rfl rfl)
theorem dX8_nights_9 : decode cX8_nights 9 = .ok (.invokestatic 97, 3) := dk_184 0 97 (dk_at dksX8_nights_0 9 rfl rfl)
theorem dX8_nights_12 : decode cX8_nights 12 = .ok (.ifCond .eq 26, 3) := dk_153 0 26 (dk_at dksX8_nights_0 12 rfl rfl)
theorem dX8_nights_15 : decode cX8_nights 15 = .ok (.iload_n 3, 1) := dk_29 (dk_at dksX8_nights_0 15 rfl rfl)
theorem dX8_nights_16 : decode cX8_nights 16 = .ok (.i2l, 1) := dk_133 (dk_at dksX8_nights_0 16 rfl rfl)
theorem dX8_nights_17 : decode cX8_nights 17 = .ok (.lconst 0, 1) := dk_9 (dk_at dksX8_nights_0 17 rfl rfl)
theorem dX8_nights_18 : decode cX8_nights 18 = .ok (.ldc2_w 306, 3) := dk_20 1 50 (dk_at dksX8_nights_0 18 rfl rfl)
theorem dX8_nights_21 : decode cX8_nights 21 = .ok (.invokestatic 91, 3) := dk_184 0 91 (dk_at dksX8_nights_0 21 rfl rfl)
theorem dX8_nights_24 : decode cX8_nights 24 = .ok (.ifCond .eq 14, 3) := dk_153 0 14 (dk_at dksX8_nights_1 0 rfl rfl)
theorem dX8_nights_27 : decode cX8_nights 27 = .ok (.iload 4, 2) := dk_21 4 (dk_at dksX8_nights_1 3 rfl rfl)
theorem dX8_nights_29 : decode cX8_nights 29 = .ok (.i2l, 1) := dk_133 (dk_at dksX8_nights_1 5 rfl rfl)
theorem dX8_nights_30 : decode cX8_nights 30 = .ok (.lconst 0, 1) := dk_9 (dk_at dksX8_nights_1 6 rfl rfl)
theorem dX8_nights_31 : decode cX8_nights 31 = .ok (.lconst 1, 1) := dk_10 (dk_at dksX8_nights_1 7 rfl rfl)
theorem dX8_nights_32 : decode cX8_nights 32 = .ok (.invokestatic 91, 3) := dk_184 0 91 (dk_at dksX8_nights_1 8 rfl rfl)
theorem dX8_nights_35 : decode cX8_nights 35 = .ok (.ifCond .ne 6, 3) := dk_154 0 6 (dk_at dksX8_nights_1 11 rfl rfl)
theorem dX8_nights_38 : decode cX8_nights 38 = .ok (.bipush (-2), 2) := dk_16 254 (dk_at dksX8_nights_1 14 rfl rfl)
theorem dX8_nights_40 : decode cX8_nights 40 = .ok (.ireturn, 1) := dk_172 (dk_at dksX8_nights_1 16 rfl rfl)
theorem dX8_nights_41 : decode cX8_nights 41 = .ok (.aload_n 0, 1) := dk_42 (dk_at dksX8_nights_1 17 rfl rfl)
theorem dX8_nights_42 : decode cX8_nights 42 = .ok (.invokevirtual 297, 3) := dk_182 1 41 (dk_at dksX8_nights_1 18 rfl rfl)
theorem dX8_nights_45 : decode cX8_nights 45 = .ok (.aload_n 0, 1) := dk_42 (dk_at dksX8_nights_1 21 rfl rfl)
theorem dX8_nights_46 : decode cX8_nights 46 = .ok (.iload_n 2, 1) := dk_28 (dk_at dksX8_nights_1 22 rfl rfl)
theorem dX8_nights_47 : decode cX8_nights 47 = .ok (.iload_n 3, 1) := dk_29 (dk_at dksX8_nights_1 23 rfl rfl)
theorem dX8_nights_48 : decode cX8_nights 48 = .ok (.invokevirtual 308, 3) := dk_182 1 52 (dk_at dksX8_nights_2 0 rfl rfl)
theorem dX8_nights_51 : decode cX8_nights 51 = .ok (.iload 4, 2) := dk_21 4 (dk_at dksX8_nights_2 3 rfl rfl)
theorem dX8_nights_53 : decode cX8_nights 53 = .ok (.ifCond .ne 16, 3) := dk_154 0 16 (dk_at dksX8_nights_2 5 rfl rfl)
theorem dX8_nights_56 : decode cX8_nights 56 = .ok (.aload_n 0, 1) := dk_42 (dk_at dksX8_nights_2 8 rfl rfl)
theorem dX8_nights_57 : decode cX8_nights 57 = .ok (.getfield 32, 3) := dk_180 0 32 (dk_at dksX8_nights_2 9 rfl rfl)
theorem dX8_nights_60 : decode cX8_nights 60 = .ok (.iconst 2, 1) := dk_5 (dk_at dksX8_nights_2 12 rfl rfl)
theorem dX8_nights_61 : decode cX8_nights 61 = .ok (.iload_n 1, 1) := dk_27 (dk_at dksX8_nights_2 13 rfl rfl)
theorem dX8_nights_62 : decode cX8_nights 62 = .ok (.imul, 1) := dk_104 (dk_at dksX8_nights_2 14 rfl rfl)
theorem dX8_nights_63 : decode cX8_nights 63 = .ok (.iconst 1, 1) := dk_4 (dk_at dksX8_nights_2 15 rfl rfl)
theorem dX8_nights_64 : decode cX8_nights 64 = .ok (.iadd, 1) := dk_96 (dk_at dksX8_nights_2 16 rfl rfl)
theorem dX8_nights_65 : decode cX8_nights 65 = .ok (.iaload, 1) := dk_46 (dk_at dksX8_nights_2 17 rfl rfl)
theorem dX8_nights_66 : decode cX8_nights 66 = .ok (.goto 8, 3) := dk_167 0 8 (dk_at dksX8_nights_2 18 rfl rfl)
theorem dX8_nights_69 : decode cX8_nights 69 = .ok (.aload_n 0, 1) := dk_42 (dk_at dksX8_nights_2 21 rfl rfl)
theorem dX8_nights_70 : decode cX8_nights 70 = .ok (.iload_n 2, 1) := dk_28 (dk_at dksX8_nights_2 22 rfl rfl)
theorem dX8_nights_71 : decode cX8_nights 71 = .ok (.invokevirtual 103, 3) := dk_182 0 103 (dk_at dksX8_nights_3 0 rfl rfl)
theorem dX8_nights_74 : decode cX8_nights 74 = .ok (.istore 5, 2) := dk_54 5 (dk_at dksX8_nights_3 3 rfl rfl)
theorem dX8_nights_76 : decode cX8_nights 76 = .ok (.aload_n 0, 1) := dk_42 (dk_at dksX8_nights_3 5 rfl rfl)
theorem dX8_nights_77 : decode cX8_nights 77 = .ok (.invokevirtual 300, 3) := dk_182 1 44 (dk_at dksX8_nights_3 6 rfl rfl)
theorem dX8_nights_80 : decode cX8_nights 80 = .ok (.iload 5, 2) := dk_21 5 (dk_at dksX8_nights_3 9 rfl rfl)
theorem dX8_nights_82 : decode cX8_nights 82 = .ok (.ireturn, 1) := dk_172 (dk_at dksX8_nights_3 11 rfl rfl)
abbrev cX8_gleanNights : ByteArray := prog_16_method_56_code
def yX8_gleanNights : MethodName := ⟨RX8, "gleanNights", "(II)V"⟩
def dkwX8_gleanNights_1 : List UInt8 := [182, 1, 29, 87, 132, 4, 1, 167, 255, 236, 42, 182, 1, 35, 132, 3, 1, 167, 255, 218, 177]
abbrev dktX8_gleanNights_1 : List UInt8 := dkwX8_gleanNights_1 ++ []
def dkwX8_gleanNights_0 : List UInt8 := [3, 62, 29, 28, 162, 0, 39, 3, 54, 4, 21, 4, 42, 180, 0, 88, 162, 0, 17, 42, 21, 4, 27]
abbrev dktX8_gleanNights_0 : List UInt8 := dkwX8_gleanNights_0 ++ dktX8_gleanNights_1
theorem dksX8_gleanNights_0 : cX8_gleanNights.data.toList.drop 0 = dktX8_gleanNights_0 := by decide +kernel
theorem dksX8_gleanNights_1 : cX8_gleanNights.data.toList.drop 23 = dktX8_gleanNights_1 := dk_seg dksX8_gleanNights_0 23 rfl rfl
theorem dX8_gleanNights_0 : decode cX8_gleanNights 0 = .ok (.iconst 0, 1) := dk_3 (dk_at dksX8_gleanNights_0 0 rfl rfl)
theorem dX8_gleanNights_1 : decode cX8_gleanNights 1 = .ok (.istore_n 3, 1) := dk_62 (dk_at dksX8_gleanNights_0 1 rfl rfl)
theorem dX8_gleanNights_2 : decode cX8_gleanNights 2 = .ok (.iload_n 3, 1) := dk_29 (dk_at dksX8_gleanNights_0 2 rfl rfl)
theorem dX8_gleanNights_3 : decode cX8_gleanNights 3 = .ok (.iload_n 2, 1) := dk_28 (dk_at dksX8_gleanNights_0 3 rfl rfl)
theorem dX8_gleanNights_4 : decode cX8_gleanNights 4 = .ok (.if_icmp .ge 39, 3) := dk_162 0 39 (dk_at dksX8_gleanNights_0 4 rfl rfl)
theorem dX8_gleanNights_7 : decode cX8_gleanNights 7 = .ok (.iconst 0, 1) := dk_3 (dk_at dksX8_gleanNights_0 7 rfl rfl)
theorem dX8_gleanNights_8 : decode cX8_gleanNights 8 = .ok (.istore 4, 2) := dk_54 4 (dk_at dksX8_gleanNights_0 8 rfl rfl)
theorem dX8_gleanNights_10 : decode cX8_gleanNights 10 = .ok (.iload 4, 2) := dk_21 4 (dk_at dksX8_gleanNights_0 10 rfl rfl)
theorem dX8_gleanNights_12 : decode cX8_gleanNights 12 = .ok (.aload_n 0, 1) := dk_42 (dk_at dksX8_gleanNights_0 12 rfl rfl)
theorem dX8_gleanNights_13 : decode cX8_gleanNights 13 = .ok (.getfield 88, 3) := dk_180 0 88 (dk_at dksX8_gleanNights_0 13 rfl rfl)
theorem dX8_gleanNights_16 : decode cX8_gleanNights 16 = .ok (.if_icmp .ge 17, 3) := dk_162 0 17 (dk_at dksX8_gleanNights_0 16 rfl rfl)
theorem dX8_gleanNights_19 : decode cX8_gleanNights 19 = .ok (.aload_n 0, 1) := dk_42 (dk_at dksX8_gleanNights_0 19 rfl rfl)
theorem dX8_gleanNights_20 : decode cX8_gleanNights 20 = .ok (.iload 4, 2) := dk_21 4 (dk_at dksX8_gleanNights_0 20 rfl rfl)
theorem dX8_gleanNights_22 : decode cX8_gleanNights 22 = .ok (.iload_n 1, 1) := dk_27 (dk_at dksX8_gleanNights_0 22 rfl rfl)
theorem dX8_gleanNights_23 : decode cX8_gleanNights 23 = .ok (.invokevirtual 285, 3) := dk_182 1 29 (dk_at dksX8_gleanNights_1 0 rfl rfl)
theorem dX8_gleanNights_26 : decode cX8_gleanNights 26 = .ok (.pop, 1) := dk_87 (dk_at dksX8_gleanNights_1 3 rfl rfl)
theorem dX8_gleanNights_27 : decode cX8_gleanNights 27 = .ok (.iinc 4 1, 3) := dk_132 4 1 (dk_at dksX8_gleanNights_1 4 rfl rfl)
theorem dX8_gleanNights_30 : decode cX8_gleanNights 30 = .ok (.goto (-20), 3) := dk_167 255 236 (dk_at dksX8_gleanNights_1 7 rfl rfl)
theorem dX8_gleanNights_33 : decode cX8_gleanNights 33 = .ok (.aload_n 0, 1) := dk_42 (dk_at dksX8_gleanNights_1 10 rfl rfl)
theorem dX8_gleanNights_34 : decode cX8_gleanNights 34 = .ok (.invokevirtual 291, 3) := dk_182 1 35 (dk_at dksX8_gleanNights_1 11 rfl rfl)
theorem dX8_gleanNights_37 : decode cX8_gleanNights 37 = .ok (.iinc 3 1, 3) := dk_132 3 1 (dk_at dksX8_gleanNights_1 14 rfl rfl)
theorem dX8_gleanNights_40 : decode cX8_gleanNights 40 = .ok (.goto (-38), 3) := dk_167 255 218 (dk_at dksX8_gleanNights_1 17 rfl rfl)
theorem dX8_gleanNights_43 : decode cX8_gleanNights 43 = .ok (.return_, 1) := dk_177 (dk_at dksX8_gleanNights_1 20 rfl rfl)
abbrev cX8_first : ByteArray := prog_16_method_59_code
def yX8_first : MethodName := ⟨RX8, "first", "(III)I"⟩
def dkwX8_first_2 : List UInt8 := [182, 1, 62, 29, 154, 0, 10, 42, 180, 1, 56, 167, 0, 7, 42, 180, 1, 59, 172]
abbrev dktX8_first_2 : List UInt8 := dkwX8_first_2 ++ []
def dkwX8_first_1 : List UInt8 := [154, 0, 7, 17, 252, 24, 172, 42, 2, 181, 1, 56, 42, 3, 181, 1, 59, 42, 28, 27, 3, 3, 3]
abbrev dktX8_first_1 : List UInt8 := dkwX8_first_1 ++ dktX8_first_2
def dkwX8_first_0 : List UInt8 := [42, 27, 182, 0, 112, 153, 0, 20, 28, 184, 0, 97, 153, 0, 13, 29, 133, 9, 10, 184, 0, 91]
abbrev dktX8_first_0 : List UInt8 := dkwX8_first_0 ++ dktX8_first_1
theorem dksX8_first_0 : cX8_first.data.toList.drop 0 = dktX8_first_0 := by decide +kernel
theorem dksX8_first_1 : cX8_first.data.toList.drop 22 = dktX8_first_1 := dk_seg dksX8_first_0 22 rfl rfl
theorem dksX8_first_2 : cX8_first.data.toList.drop 45 = dktX8_first_2 := dk_seg dksX8_first_1 23 rfl rfl
theorem dX8_first_0 : decode cX8_first 0 = .ok (.aload_n 0, 1) := dk_42 (dk_at dksX8_first_0 0 rfl rfl)
theorem dX8_first_1 : decode cX8_first 1 = .ok (.iload_n 1, 1) := dk_27 (dk_at dksX8_first_0 1 rfl rfl)
theorem dX8_first_2 : decode cX8_first 2 = .ok (.invokevirtual 112, 3) := dk_182 0 112 (dk_at dksX8_first_0 2 rfl rfl)
theorem dX8_first_5 : decode cX8_first 5 = .ok (.ifCond .eq 20, 3) := dk_153 0 20 (dk_at dksX8_first_0 5 rfl rfl)
theorem dX8_first_8 : decode cX8_first 8 = .ok (.iload_n 2, 1) := dk_28 (dk_at dksX8_first_0 8 rfl rfl)
theorem dX8_first_9 : decode cX8_first 9 = .ok (.invokestatic 97, 3) := dk_184 0 97 (dk_at dksX8_first_0 9 rfl rfl)
theorem dX8_first_12 : decode cX8_first 12 = .ok (.ifCond .eq 13, 3) := dk_153 0 13 (dk_at dksX8_first_0 12 rfl rfl)
theorem dX8_first_15 : decode cX8_first 15 = .ok (.iload_n 3, 1) := dk_29 (dk_at dksX8_first_0 15 rfl rfl)
theorem dX8_first_16 : decode cX8_first 16 = .ok (.i2l, 1) := dk_133 (dk_at dksX8_first_0 16 rfl rfl)
theorem dX8_first_17 : decode cX8_first 17 = .ok (.lconst 0, 1) := dk_9 (dk_at dksX8_first_0 17 rfl rfl)
theorem dX8_first_18 : decode cX8_first 18 = .ok (.lconst 1, 1) := dk_10 (dk_at dksX8_first_0 18 rfl rfl)
theorem dX8_first_19 : decode cX8_first 19 = .ok (.invokestatic 91, 3) := dk_184 0 91 (dk_at dksX8_first_0 19 rfl rfl)
theorem dX8_first_22 : decode cX8_first 22 = .ok (.ifCond .ne 7, 3) := dk_154 0 7 (dk_at dksX8_first_1 0 rfl rfl)
theorem dX8_first_25 : decode cX8_first 25 = .ok (.sipush (-1000), 3) := dk_17 252 24 (dk_at dksX8_first_1 3 rfl rfl)
theorem dX8_first_28 : decode cX8_first 28 = .ok (.ireturn, 1) := dk_172 (dk_at dksX8_first_1 6 rfl rfl)
theorem dX8_first_29 : decode cX8_first 29 = .ok (.aload_n 0, 1) := dk_42 (dk_at dksX8_first_1 7 rfl rfl)
theorem dX8_first_30 : decode cX8_first 30 = .ok (.iconst (-1), 1) := dk_2 (dk_at dksX8_first_1 8 rfl rfl)
theorem dX8_first_31 : decode cX8_first 31 = .ok (.putfield 312, 3) := dk_181 1 56 (dk_at dksX8_first_1 9 rfl rfl)
theorem dX8_first_34 : decode cX8_first 34 = .ok (.aload_n 0, 1) := dk_42 (dk_at dksX8_first_1 12 rfl rfl)
theorem dX8_first_35 : decode cX8_first 35 = .ok (.iconst 0, 1) := dk_3 (dk_at dksX8_first_1 13 rfl rfl)
theorem dX8_first_36 : decode cX8_first 36 = .ok (.putfield 315, 3) := dk_181 1 59 (dk_at dksX8_first_1 14 rfl rfl)
theorem dX8_first_39 : decode cX8_first 39 = .ok (.aload_n 0, 1) := dk_42 (dk_at dksX8_first_1 17 rfl rfl)
theorem dX8_first_40 : decode cX8_first 40 = .ok (.iload_n 2, 1) := dk_28 (dk_at dksX8_first_1 18 rfl rfl)
theorem dX8_first_41 : decode cX8_first 41 = .ok (.iload_n 1, 1) := dk_27 (dk_at dksX8_first_1 19 rfl rfl)
theorem dX8_first_42 : decode cX8_first 42 = .ok (.iconst 0, 1) := dk_3 (dk_at dksX8_first_1 20 rfl rfl)
theorem dX8_first_43 : decode cX8_first 43 = .ok (.iconst 0, 1) := dk_3 (dk_at dksX8_first_1 21 rfl rfl)
theorem dX8_first_44 : decode cX8_first 44 = .ok (.iconst 0, 1) := dk_3 (dk_at dksX8_first_1 22 rfl rfl)
theorem dX8_first_45 : decode cX8_first 45 = .ok (.invokevirtual 318, 3) := dk_182 1 62 (dk_at dksX8_first_2 0 rfl rfl)
theorem dX8_first_48 : decode cX8_first 48 = .ok (.iload_n 3, 1) := dk_29 (dk_at dksX8_first_2 3 rfl rfl)
theorem dX8_first_49 : decode cX8_first 49 = .ok (.ifCond .ne 10, 3) := dk_154 0 10 (dk_at dksX8_first_2 4 rfl rfl)
theorem dX8_first_52 : decode cX8_first 52 = .ok (.aload_n 0, 1) := dk_42 (dk_at dksX8_first_2 7 rfl rfl)
theorem dX8_first_53 : decode cX8_first 53 = .ok (.getfield 312, 3) := dk_180 1 56 (dk_at dksX8_first_2 8 rfl rfl)
theorem dX8_first_56 : decode cX8_first 56 = .ok (.goto 7, 3) := dk_167 0 7 (dk_at dksX8_first_2 11 rfl rfl)
theorem dX8_first_59 : decode cX8_first 59 = .ok (.aload_n 0, 1) := dk_42 (dk_at dksX8_first_2 14 rfl rfl)
theorem dX8_first_60 : decode cX8_first 60 = .ok (.getfield 315, 3) := dk_180 1 59 (dk_at dksX8_first_2 15 rfl rfl)
theorem dX8_first_63 : decode cX8_first 63 = .ok (.ireturn, 1) := dk_172 (dk_at dksX8_first_2 18 rfl rfl)
abbrev cX8_orders : ByteArray := prog_16_method_58_code
def yX8_orders : MethodName := ⟨RX8, "orders", "(IIIII)V"⟩
def dkwX8_orders_8 : List UInt8 := [167, 255, 149, 177]
abbrev dktX8_orders_8 : List UInt8 := dkwX8_orders_8 ++ []
def dkwX8_orders_7 : List UInt8 := [180, 0, 26, 27, 21, 7, 79, 42, 180, 0, 32, 5, 21, 8, 104, 4, 96, 21, 9, 79, 132, 8, 1]
abbrev dktX8_orders_7 : List UInt8 := dkwX8_orders_7 ++ dktX8_orders_8
def dkwX8_orders_6 : List UInt8 := [160, 0, 8, 21, 10, 167, 0, 5, 21, 5, 182, 1, 62, 42, 180, 0, 23, 27, 21, 6, 79, 42]
abbrev dktX8_orders_6 : List UInt8 := dkwX8_orders_6 ++ dktX8_orders_7
def dkwX8_orders_5 : List UInt8 := [54, 10, 42, 27, 28, 29, 4, 21, 8, 120, 128, 16, 10, 21, 4, 104, 21, 8, 96, 4, 96, 21, 8, 28]
abbrev dktX8_orders_5 : List UInt8 := dkwX8_orders_5 ++ dktX8_orders_6
def dkwX8_orders_4 : List UInt8 := [126, 154, 0, 89, 42, 180, 0, 32, 5, 21, 8, 104, 4, 96, 46, 54, 9, 42, 21, 8, 27, 182, 1, 29]
abbrev dktX8_orders_4 : List UInt8 := dkwX8_orders_4 ++ dktX8_orders_5
def dkwX8_orders_3 : List UInt8 := [180, 0, 26, 27, 46, 54, 7, 3, 54, 8, 21, 8, 42, 180, 0, 88, 162, 0, 104, 29, 21, 8, 122, 4]
abbrev dktX8_orders_3 : List UInt8 := dkwX8_orders_3 ++ dktX8_orders_4
def dkwX8_orders_2 : List UInt8 := [42, 21, 4, 181, 1, 56, 42, 21, 6, 181, 1, 59, 177, 42, 180, 0, 23, 27, 46, 54, 6, 42]
abbrev dktX8_orders_2 : List UInt8 := dkwX8_orders_2 ++ dktX8_orders_3
def dkwX8_orders_1 : List UInt8 := [167, 0, 5, 21, 5, 54, 6, 42, 180, 1, 56, 2, 159, 0, 12, 21, 6, 42, 180, 1, 59, 164, 0, 15]
abbrev dktX8_orders_1 : List UInt8 := dkwX8_orders_1 ++ dktX8_orders_2
def dkwX8_orders_0 : List UInt8 := [29, 4, 42, 180, 0, 88, 120, 4, 100, 160, 0, 51, 28, 2, 160, 0, 12, 42, 27, 182, 0, 103, 116]
abbrev dktX8_orders_0 : List UInt8 := dkwX8_orders_0 ++ dktX8_orders_1
theorem dksX8_orders_0 : cX8_orders.data.toList.drop 0 = dktX8_orders_0 := by decide +kernel
theorem dksX8_orders_1 : cX8_orders.data.toList.drop 23 = dktX8_orders_1 := dk_seg dksX8_orders_0 23 rfl rfl
theorem dksX8_orders_2 : cX8_orders.data.toList.drop 47 = dktX8_orders_2 := dk_seg dksX8_orders_1 24 rfl rfl
theorem dksX8_orders_3 : cX8_orders.data.toList.drop 69 = dktX8_orders_3 := dk_seg dksX8_orders_2 22 rfl rfl
theorem dksX8_orders_4 : cX8_orders.data.toList.drop 93 = dktX8_orders_4 := dk_seg dksX8_orders_3 24 rfl rfl
theorem dksX8_orders_5 : cX8_orders.data.toList.drop 117 = dktX8_orders_5 := dk_seg dksX8_orders_4 24 rfl rfl
theorem dksX8_orders_6 : cX8_orders.data.toList.drop 141 = dktX8_orders_6 := dk_seg dksX8_orders_5 24 rfl rfl
theorem dksX8_orders_7 : cX8_orders.data.toList.drop 163 = dktX8_orders_7 := dk_seg dksX8_orders_6 22 rfl rfl
theorem dksX8_orders_8 : cX8_orders.data.toList.drop 186 = dktX8_orders_8 := dk_seg dksX8_orders_7 23 rfl rfl
theorem dX8_orders_0 : decode cX8_orders 0 = .ok (.iload_n 3, 1) := dk_29 (dk_at dksX8_orders_0 0 rfl rfl)
theorem dX8_orders_1 : decode cX8_orders 1 = .ok (.iconst 1, 1) := dk_4 (dk_at dksX8_orders_0 1 rfl rfl)
theorem dX8_orders_2 : decode cX8_orders 2 = .ok (.aload_n 0, 1) := dk_42 (dk_at dksX8_orders_0 2 rfl rfl)
theorem dX8_orders_3 : decode cX8_orders 3 = .ok (.getfield 88, 3) := dk_180 0 88 (dk_at dksX8_orders_0 3 rfl rfl)
theorem dX8_orders_6 : decode cX8_orders 6 = .ok (.ishl, 1) := dk_120 (dk_at dksX8_orders_0 6 rfl rfl)
theorem dX8_orders_7 : decode cX8_orders 7 = .ok (.iconst 1, 1) := dk_4 (dk_at dksX8_orders_0 7 rfl rfl)
theorem dX8_orders_8 : decode cX8_orders 8 = .ok (.isub, 1) := dk_100 (dk_at dksX8_orders_0 8 rfl rfl)
theorem dX8_orders_9 : decode cX8_orders 9 = .ok (.if_icmp .ne 51, 3) := dk_160 0 51 (dk_at dksX8_orders_0 9 rfl rfl)
theorem dX8_orders_12 : decode cX8_orders 12 = .ok (.iload_n 2, 1) := dk_28 (dk_at dksX8_orders_0 12 rfl rfl)
theorem dX8_orders_13 : decode cX8_orders 13 = .ok (.iconst (-1), 1) := dk_2 (dk_at dksX8_orders_0 13 rfl rfl)
theorem dX8_orders_14 : decode cX8_orders 14 = .ok (.if_icmp .ne 12, 3) := dk_160 0 12 (dk_at dksX8_orders_0 14 rfl rfl)
theorem dX8_orders_17 : decode cX8_orders 17 = .ok (.aload_n 0, 1) := dk_42 (dk_at dksX8_orders_0 17 rfl rfl)
theorem dX8_orders_18 : decode cX8_orders 18 = .ok (.iload_n 1, 1) := dk_27 (dk_at dksX8_orders_0 18 rfl rfl)
theorem dX8_orders_19 : decode cX8_orders 19 = .ok (.invokevirtual 103, 3) := dk_182 0 103 (dk_at dksX8_orders_0 19 rfl rfl)
theorem dX8_orders_22 : decode cX8_orders 22 = .ok (.ineg, 1) := dk_116 (dk_at dksX8_orders_0 22 rfl rfl)
theorem dX8_orders_23 : decode cX8_orders 23 = .ok (.goto 5, 3) := dk_167 0 5 (dk_at dksX8_orders_1 0 rfl rfl)
theorem dX8_orders_26 : decode cX8_orders 26 = .ok (.iload 5, 2) := dk_21 5 (dk_at dksX8_orders_1 3 rfl rfl)
theorem dX8_orders_28 : decode cX8_orders 28 = .ok (.istore 6, 2) := dk_54 6 (dk_at dksX8_orders_1 5 rfl rfl)
theorem dX8_orders_30 : decode cX8_orders 30 = .ok (.aload_n 0, 1) := dk_42 (dk_at dksX8_orders_1 7 rfl rfl)
theorem dX8_orders_31 : decode cX8_orders 31 = .ok (.getfield 312, 3) := dk_180 1 56 (dk_at dksX8_orders_1 8 rfl rfl)
theorem dX8_orders_34 : decode cX8_orders 34 = .ok (.iconst (-1), 1) := dk_2 (dk_at dksX8_orders_1 11 rfl rfl)
theorem dX8_orders_35 : decode cX8_orders 35 = .ok (.if_icmp .eq 12, 3) := dk_159 0 12 (dk_at dksX8_orders_1 12 rfl rfl)
theorem dX8_orders_38 : decode cX8_orders 38 = .ok (.iload 6, 2) := dk_21 6 (dk_at dksX8_orders_1 15 rfl rfl)
theorem dX8_orders_40 : decode cX8_orders 40 = .ok (.aload_n 0, 1) := dk_42 (dk_at dksX8_orders_1 17 rfl rfl)
theorem dX8_orders_41 : decode cX8_orders 41 = .ok (.getfield 315, 3) := dk_180 1 59 (dk_at dksX8_orders_1 18 rfl rfl)
theorem dX8_orders_44 : decode cX8_orders 44 = .ok (.if_icmp .le 15, 3) := dk_164 0 15 (dk_at dksX8_orders_1 21 rfl rfl)
theorem dX8_orders_47 : decode cX8_orders 47 = .ok (.aload_n 0, 1) := dk_42 (dk_at dksX8_orders_2 0 rfl rfl)
theorem dX8_orders_48 : decode cX8_orders 48 = .ok (.iload 4, 2) := dk_21 4 (dk_at dksX8_orders_2 1 rfl rfl)
theorem dX8_orders_50 : decode cX8_orders 50 = .ok (.putfield 312, 3) := dk_181 1 56 (dk_at dksX8_orders_2 3 rfl rfl)
theorem dX8_orders_53 : decode cX8_orders 53 = .ok (.aload_n 0, 1) := dk_42 (dk_at dksX8_orders_2 6 rfl rfl)
theorem dX8_orders_54 : decode cX8_orders 54 = .ok (.iload 6, 2) := dk_21 6 (dk_at dksX8_orders_2 7 rfl rfl)
theorem dX8_orders_56 : decode cX8_orders 56 = .ok (.putfield 315, 3) := dk_181 1 59 (dk_at dksX8_orders_2 9 rfl rfl)
theorem dX8_orders_59 : decode cX8_orders 59 = .ok (.return_, 1) := dk_177 (dk_at dksX8_orders_2 12 rfl rfl)
theorem dX8_orders_60 : decode cX8_orders 60 = .ok (.aload_n 0, 1) := dk_42 (dk_at dksX8_orders_2 13 rfl rfl)
theorem dX8_orders_61 : decode cX8_orders 61 = .ok (.getfield 23, 3) := dk_180 0 23 (dk_at dksX8_orders_2 14 rfl rfl)
theorem dX8_orders_64 : decode cX8_orders 64 = .ok (.iload_n 1, 1) := dk_27 (dk_at dksX8_orders_2 17 rfl rfl)
theorem dX8_orders_65 : decode cX8_orders 65 = .ok (.iaload, 1) := dk_46 (dk_at dksX8_orders_2 18 rfl rfl)
theorem dX8_orders_66 : decode cX8_orders 66 = .ok (.istore 6, 2) := dk_54 6 (dk_at dksX8_orders_2 19 rfl rfl)
theorem dX8_orders_68 : decode cX8_orders 68 = .ok (.aload_n 0, 1) := dk_42 (dk_at dksX8_orders_2 21 rfl rfl)
theorem dX8_orders_69 : decode cX8_orders 69 = .ok (.getfield 26, 3) := dk_180 0 26 (dk_at dksX8_orders_3 0 rfl rfl)
theorem dX8_orders_72 : decode cX8_orders 72 = .ok (.iload_n 1, 1) := dk_27 (dk_at dksX8_orders_3 3 rfl rfl)
theorem dX8_orders_73 : decode cX8_orders 73 = .ok (.iaload, 1) := dk_46 (dk_at dksX8_orders_3 4 rfl rfl)
theorem dX8_orders_74 : decode cX8_orders 74 = .ok (.istore 7, 2) := dk_54 7 (dk_at dksX8_orders_3 5 rfl rfl)
theorem dX8_orders_76 : decode cX8_orders 76 = .ok (.iconst 0, 1) := dk_3 (dk_at dksX8_orders_3 7 rfl rfl)
theorem dX8_orders_77 : decode cX8_orders 77 = .ok (.istore 8, 2) := dk_54 8 (dk_at dksX8_orders_3 8 rfl rfl)
theorem dX8_orders_79 : decode cX8_orders 79 = .ok (.iload 8, 2) := dk_21 8 (dk_at dksX8_orders_3 10 rfl rfl)
theorem dX8_orders_81 : decode cX8_orders 81 = .ok (.aload_n 0, 1) := dk_42 (dk_at dksX8_orders_3 12 rfl rfl)
theorem dX8_orders_82 : decode cX8_orders 82 = .ok (.getfield 88, 3) := dk_180 0 88 (dk_at dksX8_orders_3 13 rfl rfl)
theorem dX8_orders_85 : decode cX8_orders 85 = .ok (.if_icmp .ge 104, 3) := dk_162 0 104 (dk_at dksX8_orders_3 16 rfl rfl)
theorem dX8_orders_88 : decode cX8_orders 88 = .ok (.iload_n 3, 1) := dk_29 (dk_at dksX8_orders_3 19 rfl rfl)
theorem dX8_orders_89 : decode cX8_orders 89 = .ok (.iload 8, 2) := dk_21 8 (dk_at dksX8_orders_3 20 rfl rfl)
theorem dX8_orders_91 : decode cX8_orders 91 = .ok (.ishr, 1) := dk_122 (dk_at dksX8_orders_3 22 rfl rfl)
theorem dX8_orders_92 : decode cX8_orders 92 = .ok (.iconst 1, 1) := dk_4 (dk_at dksX8_orders_3 23 rfl rfl)
theorem dX8_orders_93 : decode cX8_orders 93 = .ok (.iand, 1) := dk_126 (dk_at dksX8_orders_4 0 rfl rfl)
theorem dX8_orders_94 : decode cX8_orders 94 = .ok (.ifCond .ne 89, 3) := dk_154 0 89 (dk_at dksX8_orders_4 1 rfl rfl)
theorem dX8_orders_97 : decode cX8_orders 97 = .ok (.aload_n 0, 1) := dk_42 (dk_at dksX8_orders_4 4 rfl rfl)
theorem dX8_orders_98 : decode cX8_orders 98 = .ok (.getfield 32, 3) := dk_180 0 32 (dk_at dksX8_orders_4 5 rfl rfl)
theorem dX8_orders_101 : decode cX8_orders 101 = .ok (.iconst 2, 1) := dk_5 (dk_at dksX8_orders_4 8 rfl rfl)
theorem dX8_orders_102 : decode cX8_orders 102 = .ok (.iload 8, 2) := dk_21 8 (dk_at dksX8_orders_4 9 rfl rfl)
theorem dX8_orders_104 : decode cX8_orders 104 = .ok (.imul, 1) := dk_104 (dk_at dksX8_orders_4 11 rfl rfl)
theorem dX8_orders_105 : decode cX8_orders 105 = .ok (.iconst 1, 1) := dk_4 (dk_at dksX8_orders_4 12 rfl rfl)
theorem dX8_orders_106 : decode cX8_orders 106 = .ok (.iadd, 1) := dk_96 (dk_at dksX8_orders_4 13 rfl rfl)
theorem dX8_orders_107 : decode cX8_orders 107 = .ok (.iaload, 1) := dk_46 (dk_at dksX8_orders_4 14 rfl rfl)
theorem dX8_orders_108 : decode cX8_orders 108 = .ok (.istore 9, 2) := dk_54 9 (dk_at dksX8_orders_4 15 rfl rfl)
theorem dX8_orders_110 : decode cX8_orders 110 = .ok (.aload_n 0, 1) := dk_42 (dk_at dksX8_orders_4 17 rfl rfl)
theorem dX8_orders_111 : decode cX8_orders 111 = .ok (.iload 8, 2) := dk_21 8 (dk_at dksX8_orders_4 18 rfl rfl)
theorem dX8_orders_113 : decode cX8_orders 113 = .ok (.iload_n 1, 1) := dk_27 (dk_at dksX8_orders_4 20 rfl rfl)
theorem dX8_orders_114 : decode cX8_orders 114 = .ok (.invokevirtual 285, 3) := dk_182 1 29 (dk_at dksX8_orders_4 21 rfl rfl)
theorem dX8_orders_117 : decode cX8_orders 117 = .ok (.istore 10, 2) := dk_54 10 (dk_at dksX8_orders_5 0 rfl rfl)
theorem dX8_orders_119 : decode cX8_orders 119 = .ok (.aload_n 0, 1) := dk_42 (dk_at dksX8_orders_5 2 rfl rfl)
theorem dX8_orders_120 : decode cX8_orders 120 = .ok (.iload_n 1, 1) := dk_27 (dk_at dksX8_orders_5 3 rfl rfl)
theorem dX8_orders_121 : decode cX8_orders 121 = .ok (.iload_n 2, 1) := dk_28 (dk_at dksX8_orders_5 4 rfl rfl)
theorem dX8_orders_122 : decode cX8_orders 122 = .ok (.iload_n 3, 1) := dk_29 (dk_at dksX8_orders_5 5 rfl rfl)
theorem dX8_orders_123 : decode cX8_orders 123 = .ok (.iconst 1, 1) := dk_4 (dk_at dksX8_orders_5 6 rfl rfl)
theorem dX8_orders_124 : decode cX8_orders 124 = .ok (.iload 8, 2) := dk_21 8 (dk_at dksX8_orders_5 7 rfl rfl)
theorem dX8_orders_126 : decode cX8_orders 126 = .ok (.ishl, 1) := dk_120 (dk_at dksX8_orders_5 9 rfl rfl)
theorem dX8_orders_127 : decode cX8_orders 127 = .ok (.ior, 1) := dk_128 (dk_at dksX8_orders_5 10 rfl rfl)
theorem dX8_orders_128 : decode cX8_orders 128 = .ok (.bipush 10, 2) := dk_16 10 (dk_at dksX8_orders_5 11 rfl rfl)
theorem dX8_orders_130 : decode cX8_orders 130 = .ok (.iload 4, 2) := dk_21 4 (dk_at dksX8_orders_5 13 rfl rfl)
theorem dX8_orders_132 : decode cX8_orders 132 = .ok (.imul, 1) := dk_104 (dk_at dksX8_orders_5 15 rfl rfl)
theorem dX8_orders_133 : decode cX8_orders 133 = .ok (.iload 8, 2) := dk_21 8 (dk_at dksX8_orders_5 16 rfl rfl)
theorem dX8_orders_135 : decode cX8_orders 135 = .ok (.iadd, 1) := dk_96 (dk_at dksX8_orders_5 18 rfl rfl)
theorem dX8_orders_136 : decode cX8_orders 136 = .ok (.iconst 1, 1) := dk_4 (dk_at dksX8_orders_5 19 rfl rfl)
theorem dX8_orders_137 : decode cX8_orders 137 = .ok (.iadd, 1) := dk_96 (dk_at dksX8_orders_5 20 rfl rfl)
theorem dX8_orders_138 : decode cX8_orders 138 = .ok (.iload 8, 2) := dk_21 8 (dk_at dksX8_orders_5 21 rfl rfl)
theorem dX8_orders_140 : decode cX8_orders 140 = .ok (.iload_n 2, 1) := dk_28 (dk_at dksX8_orders_5 23 rfl rfl)
theorem dX8_orders_141 : decode cX8_orders 141 = .ok (.if_icmp .ne 8, 3) := dk_160 0 8 (dk_at dksX8_orders_6 0 rfl rfl)
theorem dX8_orders_144 : decode cX8_orders 144 = .ok (.iload 10, 2) := dk_21 10 (dk_at dksX8_orders_6 3 rfl rfl)
theorem dX8_orders_146 : decode cX8_orders 146 = .ok (.goto 5, 3) := dk_167 0 5 (dk_at dksX8_orders_6 5 rfl rfl)
theorem dX8_orders_149 : decode cX8_orders 149 = .ok (.iload 5, 2) := dk_21 5 (dk_at dksX8_orders_6 8 rfl rfl)
theorem dX8_orders_151 : decode cX8_orders 151 = .ok (.invokevirtual 318, 3) := dk_182 1 62 (dk_at dksX8_orders_6 10 rfl rfl)
theorem dX8_orders_154 : decode cX8_orders 154 = .ok (.aload_n 0, 1) := dk_42 (dk_at dksX8_orders_6 13 rfl rfl)
theorem dX8_orders_155 : decode cX8_orders 155 = .ok (.getfield 23, 3) := dk_180 0 23 (dk_at dksX8_orders_6 14 rfl rfl)
theorem dX8_orders_158 : decode cX8_orders 158 = .ok (.iload_n 1, 1) := dk_27 (dk_at dksX8_orders_6 17 rfl rfl)
theorem dX8_orders_159 : decode cX8_orders 159 = .ok (.iload 6, 2) := dk_21 6 (dk_at dksX8_orders_6 18 rfl rfl)
theorem dX8_orders_161 : decode cX8_orders 161 = .ok (.iastore, 1) := dk_79 (dk_at dksX8_orders_6 20 rfl rfl)
theorem dX8_orders_162 : decode cX8_orders 162 = .ok (.aload_n 0, 1) := dk_42 (dk_at dksX8_orders_6 21 rfl rfl)
theorem dX8_orders_163 : decode cX8_orders 163 = .ok (.getfield 26, 3) := dk_180 0 26 (dk_at dksX8_orders_7 0 rfl rfl)
theorem dX8_orders_166 : decode cX8_orders 166 = .ok (.iload_n 1, 1) := dk_27 (dk_at dksX8_orders_7 3 rfl rfl)
theorem dX8_orders_167 : decode cX8_orders 167 = .ok (.iload 7, 2) := dk_21 7 (dk_at dksX8_orders_7 4 rfl rfl)
theorem dX8_orders_169 : decode cX8_orders 169 = .ok (.iastore, 1) := dk_79 (dk_at dksX8_orders_7 6 rfl rfl)
theorem dX8_orders_170 : decode cX8_orders 170 = .ok (.aload_n 0, 1) := dk_42 (dk_at dksX8_orders_7 7 rfl rfl)
theorem dX8_orders_171 : decode cX8_orders 171 = .ok (.getfield 32, 3) := dk_180 0 32 (dk_at dksX8_orders_7 8 rfl rfl)
theorem dX8_orders_174 : decode cX8_orders 174 = .ok (.iconst 2, 1) := dk_5 (dk_at dksX8_orders_7 11 rfl rfl)
theorem dX8_orders_175 : decode cX8_orders 175 = .ok (.iload 8, 2) := dk_21 8 (dk_at dksX8_orders_7 12 rfl rfl)
theorem dX8_orders_177 : decode cX8_orders 177 = .ok (.imul, 1) := dk_104 (dk_at dksX8_orders_7 14 rfl rfl)
theorem dX8_orders_178 : decode cX8_orders 178 = .ok (.iconst 1, 1) := dk_4 (dk_at dksX8_orders_7 15 rfl rfl)
theorem dX8_orders_179 : decode cX8_orders 179 = .ok (.iadd, 1) := dk_96 (dk_at dksX8_orders_7 16 rfl rfl)
theorem dX8_orders_180 : decode cX8_orders 180 = .ok (.iload 9, 2) := dk_21 9 (dk_at dksX8_orders_7 17 rfl rfl)
theorem dX8_orders_182 : decode cX8_orders 182 = .ok (.iastore, 1) := dk_79 (dk_at dksX8_orders_7 19 rfl rfl)
theorem dX8_orders_183 : decode cX8_orders 183 = .ok (.iinc 8 1, 3) := dk_132 8 1 (dk_at dksX8_orders_7 20 rfl rfl)
theorem dX8_orders_186 : decode cX8_orders 186 = .ok (.goto (-107), 3) := dk_167 255 149 (dk_at dksX8_orders_8 0 rfl rfl)
theorem dX8_orders_189 : decode cX8_orders 189 = .ok (.return_, 1) := dk_177 (dk_at dksX8_orders_8 3 rfl rfl)
abbrev cX8_best : ByteArray := prog_16_method_62_code
def yX8_best : MethodName := ⟨RX8, "best", "(II)I"⟩
def dkwX8_best_3 : List UInt8 := [180, 1, 56, 167, 0, 8, 42, 180, 1, 59, 116, 172]
abbrev dktX8_best_3 : List UInt8 := dkwX8_best_3 ++ []
def dkwX8_best_2 : List UInt8 := [42, 2, 181, 1, 56, 42, 3, 181, 1, 59, 42, 27, 2, 3, 3, 3, 182, 1, 62, 28, 154, 0, 10, 42]
abbrev dktX8_best_2 : List UInt8 := dkwX8_best_2 ++ dktX8_best_3
def dkwX8_best_1 : List UInt8 := [4, 164, 0, 23, 28, 7, 160, 0, 11, 42, 27, 182, 1, 68, 167, 0, 9, 42, 27, 28, 182, 1, 71, 172]
abbrev dktX8_best_1 : List UInt8 := dkwX8_best_1 ++ dktX8_best_2
def dkwX8_best_0 : List UInt8 := [27, 184, 0, 97, 153, 0, 15, 28, 133, 9, 20, 1, 66, 184, 0, 91, 154, 0, 7, 17, 252, 24, 172, 28]
abbrev dktX8_best_0 : List UInt8 := dkwX8_best_0 ++ dktX8_best_1
theorem dksX8_best_0 : cX8_best.data.toList.drop 0 = dktX8_best_0 := by decide +kernel
theorem dksX8_best_1 : cX8_best.data.toList.drop 24 = dktX8_best_1 := dk_seg dksX8_best_0 24 rfl rfl
theorem dksX8_best_2 : cX8_best.data.toList.drop 48 = dktX8_best_2 := dk_seg dksX8_best_1 24 rfl rfl
theorem dksX8_best_3 : cX8_best.data.toList.drop 72 = dktX8_best_3 := dk_seg dksX8_best_2 24 rfl rfl
theorem dX8_best_0 : decode cX8_best 0 = .ok (.iload_n 1, 1) := dk_27 (dk_at dksX8_best_0 0 rfl rfl)
theorem dX8_best_1 : decode cX8_best 1 = .ok (.invokestatic 97, 3) := dk_184 0 97 (dk_at dksX8_best_0 1 rfl rfl)
theorem dX8_best_4 : decode cX8_best 4 = .ok (.ifCond .eq 15, 3) := dk_153 0 15 (dk_at dksX8_best_0 4 rfl rfl)
theorem dX8_best_7 : decode cX8_best 7 = .ok (.iload_n 2, 1) := dk_28 (dk_at dksX8_best_0 7 rfl rfl)
theorem dX8_best_8 : decode cX8_best 8 = .ok (.i2l, 1) := dk_133 (dk_at dksX8_best_0 8 rfl rfl)
theorem dX8_best_9 : decode cX8_best 9 = .ok (.lconst 0, 1) := dk_9 (dk_at dksX8_best_0 9 rfl rfl)
theorem dX8_best_10 : decode cX8_best 10 = .ok (.ldc2_w 322, 3) := dk_20 1 66 (dk_at dksX8_best_0 10 rfl rfl)
theorem dX8_best_13 : decode cX8_best 13 = .ok (.invokestatic 91, 3) := dk_184 0 91 (dk_at dksX8_best_0 13 rfl rfl)
theorem dX8_best_16 : decode cX8_best 16 = .ok (.ifCond .ne 7, 3) := dk_154 0 7 (dk_at dksX8_best_0 16 rfl rfl)
theorem dX8_best_19 : decode cX8_best 19 = .ok (.sipush (-1000), 3) := dk_17 252 24 (dk_at dksX8_best_0 19 rfl rfl)
theorem dX8_best_22 : decode cX8_best 22 = .ok (.ireturn, 1) := dk_172 (dk_at dksX8_best_0 22 rfl rfl)
theorem dX8_best_23 : decode cX8_best 23 = .ok (.iload_n 2, 1) := dk_28 (dk_at dksX8_best_0 23 rfl rfl)
theorem dX8_best_24 : decode cX8_best 24 = .ok (.iconst 1, 1) := dk_4 (dk_at dksX8_best_1 0 rfl rfl)
theorem dX8_best_25 : decode cX8_best 25 = .ok (.if_icmp .le 23, 3) := dk_164 0 23 (dk_at dksX8_best_1 1 rfl rfl)
theorem dX8_best_28 : decode cX8_best 28 = .ok (.iload_n 2, 1) := dk_28 (dk_at dksX8_best_1 4 rfl rfl)
theorem dX8_best_29 : decode cX8_best 29 = .ok (.iconst 4, 1) := dk_7 (dk_at dksX8_best_1 5 rfl rfl)
theorem dX8_best_30 : decode cX8_best 30 = .ok (.if_icmp .ne 11, 3) := dk_160 0 11 (dk_at dksX8_best_1 6 rfl rfl)
theorem dX8_best_33 : decode cX8_best 33 = .ok (.aload_n 0, 1) := dk_42 (dk_at dksX8_best_1 9 rfl rfl)
theorem dX8_best_34 : decode cX8_best 34 = .ok (.iload_n 1, 1) := dk_27 (dk_at dksX8_best_1 10 rfl rfl)
theorem dX8_best_35 : decode cX8_best 35 = .ok (.invokevirtual 324, 3) := dk_182 1 68 (dk_at dksX8_best_1 11 rfl rfl)
theorem dX8_best_38 : decode cX8_best 38 = .ok (.goto 9, 3) := dk_167 0 9 (dk_at dksX8_best_1 14 rfl rfl)
theorem dX8_best_41 : decode cX8_best 41 = .ok (.aload_n 0, 1) := dk_42 (dk_at dksX8_best_1 17 rfl rfl)
theorem dX8_best_42 : decode cX8_best 42 = .ok (.iload_n 1, 1) := dk_27 (dk_at dksX8_best_1 18 rfl rfl)
theorem dX8_best_43 : decode cX8_best 43 = .ok (.iload_n 2, 1) := dk_28 (dk_at dksX8_best_1 19 rfl rfl)
theorem dX8_best_44 : decode cX8_best 44 = .ok (.invokevirtual 327, 3) := dk_182 1 71 (dk_at dksX8_best_1 20 rfl rfl)
theorem dX8_best_47 : decode cX8_best 47 = .ok (.ireturn, 1) := dk_172 (dk_at dksX8_best_1 23 rfl rfl)
theorem dX8_best_48 : decode cX8_best 48 = .ok (.aload_n 0, 1) := dk_42 (dk_at dksX8_best_2 0 rfl rfl)
theorem dX8_best_49 : decode cX8_best 49 = .ok (.iconst (-1), 1) := dk_2 (dk_at dksX8_best_2 1 rfl rfl)
theorem dX8_best_50 : decode cX8_best 50 = .ok (.putfield 312, 3) := dk_181 1 56 (dk_at dksX8_best_2 2 rfl rfl)
theorem dX8_best_53 : decode cX8_best 53 = .ok (.aload_n 0, 1) := dk_42 (dk_at dksX8_best_2 5 rfl rfl)
theorem dX8_best_54 : decode cX8_best 54 = .ok (.iconst 0, 1) := dk_3 (dk_at dksX8_best_2 6 rfl rfl)
theorem dX8_best_55 : decode cX8_best 55 = .ok (.putfield 315, 3) := dk_181 1 59 (dk_at dksX8_best_2 7 rfl rfl)
theorem dX8_best_58 : decode cX8_best 58 = .ok (.aload_n 0, 1) := dk_42 (dk_at dksX8_best_2 10 rfl rfl)
theorem dX8_best_59 : decode cX8_best 59 = .ok (.iload_n 1, 1) := dk_27 (dk_at dksX8_best_2 11 rfl rfl)
theorem dX8_best_60 : decode cX8_best 60 = .ok (.iconst (-1), 1) := dk_2 (dk_at dksX8_best_2 12 rfl rfl)
theorem dX8_best_61 : decode cX8_best 61 = .ok (.iconst 0, 1) := dk_3 (dk_at dksX8_best_2 13 rfl rfl)
theorem dX8_best_62 : decode cX8_best 62 = .ok (.iconst 0, 1) := dk_3 (dk_at dksX8_best_2 14 rfl rfl)
theorem dX8_best_63 : decode cX8_best 63 = .ok (.iconst 0, 1) := dk_3 (dk_at dksX8_best_2 15 rfl rfl)
theorem dX8_best_64 : decode cX8_best 64 = .ok (.invokevirtual 318, 3) := dk_182 1 62 (dk_at dksX8_best_2 16 rfl rfl)
theorem dX8_best_67 : decode cX8_best 67 = .ok (.iload_n 2, 1) := dk_28 (dk_at dksX8_best_2 19 rfl rfl)
theorem dX8_best_68 : decode cX8_best 68 = .ok (.ifCond .ne 10, 3) := dk_154 0 10 (dk_at dksX8_best_2 20 rfl rfl)
theorem dX8_best_71 : decode cX8_best 71 = .ok (.aload_n 0, 1) := dk_42 (dk_at dksX8_best_2 23 rfl rfl)
theorem dX8_best_72 : decode cX8_best 72 = .ok (.getfield 312, 3) := dk_180 1 56 (dk_at dksX8_best_3 0 rfl rfl)
theorem dX8_best_75 : decode cX8_best 75 = .ok (.goto 8, 3) := dk_167 0 8 (dk_at dksX8_best_3 3 rfl rfl)
theorem dX8_best_78 : decode cX8_best 78 = .ok (.aload_n 0, 1) := dk_42 (dk_at dksX8_best_3 6 rfl rfl)
theorem dX8_best_79 : decode cX8_best 79 = .ok (.getfield 315, 3) := dk_180 1 59 (dk_at dksX8_best_3 7 rfl rfl)
theorem dX8_best_82 : decode cX8_best 82 = .ok (.ineg, 1) := dk_116 (dk_at dksX8_best_3 10 rfl rfl)
theorem dX8_best_83 : decode cX8_best 83 = .ok (.ireturn, 1) := dk_172 (dk_at dksX8_best_3 11 rfl rfl)
abbrev cX8_bareOf : ByteArray := prog_16_method_61_code
def yX8_bareOf : MethodName := ⟨RX8, "bareOf", "(I)I"⟩
def dkwX8_bareOf_2 : List UInt8 := [172]
abbrev dktX8_bareOf_2 : List UInt8 := dkwX8_bareOf_2 ++ []
def dkwX8_bareOf_1 : List UInt8 := [182, 1, 52, 132, 2, 1, 167, 255, 233, 42, 182, 1, 44, 28, 16, 20, 164, 0, 7, 2, 167, 0, 4, 28]
abbrev dktX8_bareOf_1 : List UInt8 := dkwX8_bareOf_1 ++ dktX8_bareOf_2
def dkwX8_bareOf_0 : List UInt8 := [42, 182, 1, 41, 3, 61, 28, 16, 20, 163, 0, 23, 42, 27, 182, 0, 103, 153, 0, 15, 42, 27, 4]
abbrev dktX8_bareOf_0 : List UInt8 := dkwX8_bareOf_0 ++ dktX8_bareOf_1
theorem dksX8_bareOf_0 : cX8_bareOf.data.toList.drop 0 = dktX8_bareOf_0 := by decide +kernel
theorem dksX8_bareOf_1 : cX8_bareOf.data.toList.drop 23 = dktX8_bareOf_1 := dk_seg dksX8_bareOf_0 23 rfl rfl
theorem dksX8_bareOf_2 : cX8_bareOf.data.toList.drop 47 = dktX8_bareOf_2 := dk_seg dksX8_bareOf_1 24 rfl rfl
theorem dX8_bareOf_0 : decode cX8_bareOf 0 = .ok (.aload_n 0, 1) := dk_42 (dk_at dksX8_bareOf_0 0 rfl rfl)
theorem dX8_bareOf_1 : decode cX8_bareOf 1 = .ok (.invokevirtual 297, 3) := dk_182 1 41 (dk_at dksX8_bareOf_0 1 rfl rfl)
theorem dX8_bareOf_4 : decode cX8_bareOf 4 = .ok (.iconst 0, 1) := dk_3 (dk_at dksX8_bareOf_0 4 rfl rfl)
theorem dX8_bareOf_5 : decode cX8_bareOf 5 = .ok (.istore_n 2, 1) := dk_61 (dk_at dksX8_bareOf_0 5 rfl rfl)
theorem dX8_bareOf_6 : decode cX8_bareOf 6 = .ok (.iload_n 2, 1) := dk_28 (dk_at dksX8_bareOf_0 6 rfl rfl)
theorem dX8_bareOf_7 : decode cX8_bareOf 7 = .ok (.bipush 20, 2) := dk_16 20 (dk_at dksX8_bareOf_0 7 rfl rfl)
theorem dX8_bareOf_9 : decode cX8_bareOf 9 = .ok (.if_icmp .gt 23, 3) := dk_163 0 23 (dk_at dksX8_bareOf_0 9 rfl rfl)
theorem dX8_bareOf_12 : decode cX8_bareOf 12 = .ok (.aload_n 0, 1) := dk_42 (dk_at dksX8_bareOf_0 12 rfl rfl)
theorem dX8_bareOf_13 : decode cX8_bareOf 13 = .ok (.iload_n 1, 1) := dk_27 (dk_at dksX8_bareOf_0 13 rfl rfl)
theorem dX8_bareOf_14 : decode cX8_bareOf 14 = .ok (.invokevirtual 103, 3) := dk_182 0 103 (dk_at dksX8_bareOf_0 14 rfl rfl)
theorem dX8_bareOf_17 : decode cX8_bareOf 17 = .ok (.ifCond .eq 15, 3) := dk_153 0 15 (dk_at dksX8_bareOf_0 17 rfl rfl)
theorem dX8_bareOf_20 : decode cX8_bareOf 20 = .ok (.aload_n 0, 1) := dk_42 (dk_at dksX8_bareOf_0 20 rfl rfl)
theorem dX8_bareOf_21 : decode cX8_bareOf 21 = .ok (.iload_n 1, 1) := dk_27 (dk_at dksX8_bareOf_0 21 rfl rfl)
theorem dX8_bareOf_22 : decode cX8_bareOf 22 = .ok (.iconst 1, 1) := dk_4 (dk_at dksX8_bareOf_0 22 rfl rfl)
theorem dX8_bareOf_23 : decode cX8_bareOf 23 = .ok (.invokevirtual 308, 3) := dk_182 1 52 (dk_at dksX8_bareOf_1 0 rfl rfl)
theorem dX8_bareOf_26 : decode cX8_bareOf 26 = .ok (.iinc 2 1, 3) := dk_132 2 1 (dk_at dksX8_bareOf_1 3 rfl rfl)
theorem dX8_bareOf_29 : decode cX8_bareOf 29 = .ok (.goto (-23), 3) := dk_167 255 233 (dk_at dksX8_bareOf_1 6 rfl rfl)
theorem dX8_bareOf_32 : decode cX8_bareOf 32 = .ok (.aload_n 0, 1) := dk_42 (dk_at dksX8_bareOf_1 9 rfl rfl)
theorem dX8_bareOf_33 : decode cX8_bareOf 33 = .ok (.invokevirtual 300, 3) := dk_182 1 44 (dk_at dksX8_bareOf_1 10 rfl rfl)
theorem dX8_bareOf_36 : decode cX8_bareOf 36 = .ok (.iload_n 2, 1) := dk_28 (dk_at dksX8_bareOf_1 13 rfl rfl)
theorem dX8_bareOf_37 : decode cX8_bareOf 37 = .ok (.bipush 20, 2) := dk_16 20 (dk_at dksX8_bareOf_1 14 rfl rfl)
theorem dX8_bareOf_39 : decode cX8_bareOf 39 = .ok (.if_icmp .le 7, 3) := dk_164 0 7 (dk_at dksX8_bareOf_1 16 rfl rfl)
theorem dX8_bareOf_42 : decode cX8_bareOf 42 = .ok (.iconst (-1), 1) := dk_2 (dk_at dksX8_bareOf_1 19 rfl rfl)
theorem dX8_bareOf_43 : decode cX8_bareOf 43 = .ok (.goto 4, 3) := dk_167 0 4 (dk_at dksX8_bareOf_1 20 rfl rfl)
theorem dX8_bareOf_46 : decode cX8_bareOf 46 = .ok (.iload_n 2, 1) := dk_28 (dk_at dksX8_bareOf_1 23 rfl rfl)
theorem dX8_bareOf_47 : decode cX8_bareOf 47 = .ok (.ireturn, 1) := dk_172 (dk_at dksX8_bareOf_2 0 rfl rfl)
abbrev cX8_aloneOf : ByteArray := prog_16_method_60_code
def yX8_aloneOf : MethodName := ⟨RX8, "aloneOf", "(II)I"⟩
def dkwX8_aloneOf_2 : List UInt8 := [132, 5, 1, 167, 255, 215, 28, 5, 160, 0, 7, 29, 167, 0, 5, 21, 4, 172]
abbrev dktX8_aloneOf_2 : List UInt8 := dkwX8_aloneOf_2 ++ []
def dkwX8_aloneOf_1 : List UInt8 := [182, 1, 47, 54, 6, 29, 2, 159, 0, 10, 21, 6, 21, 4, 164, 0, 10, 21, 5, 62, 21, 6, 54, 4]
abbrev dktX8_aloneOf_1 : List UInt8 := dkwX8_aloneOf_1 ++ dktX8_aloneOf_2
def dkwX8_aloneOf_0 : List UInt8 := [2, 62, 2, 54, 4, 3, 54, 5, 21, 5, 42, 180, 0, 88, 162, 0, 38, 42, 21, 5, 27, 3]
abbrev dktX8_aloneOf_0 : List UInt8 := dkwX8_aloneOf_0 ++ dktX8_aloneOf_1
theorem dksX8_aloneOf_0 : cX8_aloneOf.data.toList.drop 0 = dktX8_aloneOf_0 := by decide +kernel
theorem dksX8_aloneOf_1 : cX8_aloneOf.data.toList.drop 22 = dktX8_aloneOf_1 := dk_seg dksX8_aloneOf_0 22 rfl rfl
theorem dksX8_aloneOf_2 : cX8_aloneOf.data.toList.drop 46 = dktX8_aloneOf_2 := dk_seg dksX8_aloneOf_1 24 rfl rfl
theorem dX8_aloneOf_0 : decode cX8_aloneOf 0 = .ok (.iconst (-1), 1) := dk_2 (dk_at dksX8_aloneOf_0 0 rfl rfl)
theorem dX8_aloneOf_1 : decode cX8_aloneOf 1 = .ok (.istore_n 3, 1) := dk_62 (dk_at dksX8_aloneOf_0 1 rfl rfl)
theorem dX8_aloneOf_2 : decode cX8_aloneOf 2 = .ok (.iconst (-1), 1) := dk_2 (dk_at dksX8_aloneOf_0 2 rfl rfl)
theorem dX8_aloneOf_3 : decode cX8_aloneOf 3 = .ok (.istore 4, 2) := dk_54 4 (dk_at dksX8_aloneOf_0 3 rfl rfl)
theorem dX8_aloneOf_5 : decode cX8_aloneOf 5 = .ok (.iconst 0, 1) := dk_3 (dk_at dksX8_aloneOf_0 5 rfl rfl)
theorem dX8_aloneOf_6 : decode cX8_aloneOf 6 = .ok (.istore 5, 2) := dk_54 5 (dk_at dksX8_aloneOf_0 6 rfl rfl)
theorem dX8_aloneOf_8 : decode cX8_aloneOf 8 = .ok (.iload 5, 2) := dk_21 5 (dk_at dksX8_aloneOf_0 8 rfl rfl)
theorem dX8_aloneOf_10 : decode cX8_aloneOf 10 = .ok (.aload_n 0, 1) := dk_42 (dk_at dksX8_aloneOf_0 10 rfl rfl)
theorem dX8_aloneOf_11 : decode cX8_aloneOf 11 = .ok (.getfield 88, 3) := dk_180 0 88 (dk_at dksX8_aloneOf_0 11 rfl rfl)
theorem dX8_aloneOf_14 : decode cX8_aloneOf 14 = .ok (.if_icmp .ge 38, 3) := dk_162 0 38 (dk_at dksX8_aloneOf_0 14 rfl rfl)
theorem dX8_aloneOf_17 : decode cX8_aloneOf 17 = .ok (.aload_n 0, 1) := dk_42 (dk_at dksX8_aloneOf_0 17 rfl rfl)
theorem dX8_aloneOf_18 : decode cX8_aloneOf 18 = .ok (.iload 5, 2) := dk_21 5 (dk_at dksX8_aloneOf_0 18 rfl rfl)
theorem dX8_aloneOf_20 : decode cX8_aloneOf 20 = .ok (.iload_n 1, 1) := dk_27 (dk_at dksX8_aloneOf_0 20 rfl rfl)
theorem dX8_aloneOf_21 : decode cX8_aloneOf 21 = .ok (.iconst 0, 1) := dk_3 (dk_at dksX8_aloneOf_0 21 rfl rfl)
theorem dX8_aloneOf_22 : decode cX8_aloneOf 22 = .ok (.invokevirtual 303, 3) := dk_182 1 47 (dk_at dksX8_aloneOf_1 0 rfl rfl)
theorem dX8_aloneOf_25 : decode cX8_aloneOf 25 = .ok (.istore 6, 2) := dk_54 6 (dk_at dksX8_aloneOf_1 3 rfl rfl)
theorem dX8_aloneOf_27 : decode cX8_aloneOf 27 = .ok (.iload_n 3, 1) := dk_29 (dk_at dksX8_aloneOf_1 5 rfl rfl)
theorem dX8_aloneOf_28 : decode cX8_aloneOf 28 = .ok (.iconst (-1), 1) := dk_2 (dk_at dksX8_aloneOf_1 6 rfl rfl)
theorem dX8_aloneOf_29 : decode cX8_aloneOf 29 = .ok (.if_icmp .eq 10, 3) := dk_159 0 10 (dk_at dksX8_aloneOf_1 7 rfl rfl)
theorem dX8_aloneOf_32 : decode cX8_aloneOf 32 = .ok (.iload 6, 2) := dk_21 6 (dk_at dksX8_aloneOf_1 10 rfl rfl)
theorem dX8_aloneOf_34 : decode cX8_aloneOf 34 = .ok (.iload 4, 2) := dk_21 4 (dk_at dksX8_aloneOf_1 12 rfl rfl)
theorem dX8_aloneOf_36 : decode cX8_aloneOf 36 = .ok (.if_icmp .le 10, 3) := dk_164 0 10 (dk_at dksX8_aloneOf_1 14 rfl rfl)
theorem dX8_aloneOf_39 : decode cX8_aloneOf 39 = .ok (.iload 5, 2) := dk_21 5 (dk_at dksX8_aloneOf_1 17 rfl rfl)
theorem dX8_aloneOf_41 : decode cX8_aloneOf 41 = .ok (.istore_n 3, 1) := dk_62 (dk_at dksX8_aloneOf_1 19 rfl rfl)
theorem dX8_aloneOf_42 : decode cX8_aloneOf 42 = .ok (.iload 6, 2) := dk_21 6 (dk_at dksX8_aloneOf_1 20 rfl rfl)
theorem dX8_aloneOf_44 : decode cX8_aloneOf 44 = .ok (.istore 4, 2) := dk_54 4 (dk_at dksX8_aloneOf_1 22 rfl rfl)
theorem dX8_aloneOf_46 : decode cX8_aloneOf 46 = .ok (.iinc 5 1, 3) := dk_132 5 1 (dk_at dksX8_aloneOf_2 0 rfl rfl)
theorem dX8_aloneOf_49 : decode cX8_aloneOf 49 = .ok (.goto (-41), 3) := dk_167 255 215 (dk_at dksX8_aloneOf_2 3 rfl rfl)
theorem dX8_aloneOf_52 : decode cX8_aloneOf 52 = .ok (.iload_n 2, 1) := dk_28 (dk_at dksX8_aloneOf_2 6 rfl rfl)
theorem dX8_aloneOf_53 : decode cX8_aloneOf 53 = .ok (.iconst 2, 1) := dk_5 (dk_at dksX8_aloneOf_2 7 rfl rfl)
theorem dX8_aloneOf_54 : decode cX8_aloneOf 54 = .ok (.if_icmp .ne 7, 3) := dk_160 0 7 (dk_at dksX8_aloneOf_2 8 rfl rfl)
theorem dX8_aloneOf_57 : decode cX8_aloneOf 57 = .ok (.iload_n 3, 1) := dk_29 (dk_at dksX8_aloneOf_2 11 rfl rfl)
theorem dX8_aloneOf_58 : decode cX8_aloneOf 58 = .ok (.goto 5, 3) := dk_167 0 5 (dk_at dksX8_aloneOf_2 12 rfl rfl)
theorem dX8_aloneOf_61 : decode cX8_aloneOf 61 = .ok (.iload 4, 2) := dk_21 4 (dk_at dksX8_aloneOf_2 15 rfl rfl)
theorem dX8_aloneOf_63 : decode cX8_aloneOf 63 = .ok (.ireturn, 1) := dk_172 (dk_at dksX8_aloneOf_2 17 rfl rfl)
abbrev cX8_rowFor : ByteArray := prog_16_method_63_code
def yX8_rowFor : MethodName := ⟨RX8, "rowFor", "(II)I"⟩
def dkwX8_rowFor_3 : List UInt8 := [154, 0, 7, 29, 167, 0, 5, 21, 4, 172]
abbrev dktX8_rowFor_3 : List UInt8 := dkwX8_rowFor_3 ++ []
def dkwX8_rowFor_2 : List UInt8 := [159, 0, 10, 21, 6, 21, 4, 164, 0, 10, 21, 5, 62, 21, 6, 54, 4, 132, 5, 1, 167, 255, 218, 28]
abbrev dktX8_rowFor_2 : List UInt8 := dkwX8_rowFor_2 ++ dktX8_rowFor_3
def dkwX8_rowFor_1 : List UInt8 := [3, 54, 4, 3, 54, 5, 21, 5, 7, 162, 0, 38, 42, 27, 21, 5, 3, 182, 1, 47, 54, 6, 29, 2]
abbrev dktX8_rowFor_1 : List UInt8 := dkwX8_rowFor_1 ++ dktX8_rowFor_2
def dkwX8_rowFor_0 : List UInt8 := [42, 27, 182, 0, 112, 153, 0, 13, 28, 133, 9, 10, 184, 0, 91, 154, 0, 7, 17, 252, 24, 172, 2, 62]
abbrev dktX8_rowFor_0 : List UInt8 := dkwX8_rowFor_0 ++ dktX8_rowFor_1
theorem dksX8_rowFor_0 : cX8_rowFor.data.toList.drop 0 = dktX8_rowFor_0 := by decide +kernel
theorem dksX8_rowFor_1 : cX8_rowFor.data.toList.drop 24 = dktX8_rowFor_1 := dk_seg dksX8_rowFor_0 24 rfl rfl
theorem dksX8_rowFor_2 : cX8_rowFor.data.toList.drop 48 = dktX8_rowFor_2 := dk_seg dksX8_rowFor_1 24 rfl rfl
theorem dksX8_rowFor_3 : cX8_rowFor.data.toList.drop 72 = dktX8_rowFor_3 := dk_seg dksX8_rowFor_2 24 rfl rfl
theorem dX8_rowFor_0 : decode cX8_rowFor 0 = .ok (.aload_n 0, 1) := dk_42 (dk_at dksX8_rowFor_0 0 rfl rfl)
theorem dX8_rowFor_1 : decode cX8_rowFor 1 = .ok (.iload_n 1, 1) := dk_27 (dk_at dksX8_rowFor_0 1 rfl rfl)
theorem dX8_rowFor_2 : decode cX8_rowFor 2 = .ok (.invokevirtual 112, 3) := dk_182 0 112 (dk_at dksX8_rowFor_0 2 rfl rfl)
theorem dX8_rowFor_5 : decode cX8_rowFor 5 = .ok (.ifCond .eq 13, 3) := dk_153 0 13 (dk_at dksX8_rowFor_0 5 rfl rfl)
theorem dX8_rowFor_8 : decode cX8_rowFor 8 = .ok (.iload_n 2, 1) := dk_28 (dk_at dksX8_rowFor_0 8 rfl rfl)
theorem dX8_rowFor_9 : decode cX8_rowFor 9 = .ok (.i2l, 1) := dk_133 (dk_at dksX8_rowFor_0 9 rfl rfl)
theorem dX8_rowFor_10 : decode cX8_rowFor 10 = .ok (.lconst 0, 1) := dk_9 (dk_at dksX8_rowFor_0 10 rfl rfl)
theorem dX8_rowFor_11 : decode cX8_rowFor 11 = .ok (.lconst 1, 1) := dk_10 (dk_at dksX8_rowFor_0 11 rfl rfl)
theorem dX8_rowFor_12 : decode cX8_rowFor 12 = .ok (.invokestatic 91, 3) := dk_184 0 91 (dk_at dksX8_rowFor_0 12 rfl rfl)
theorem dX8_rowFor_15 : decode cX8_rowFor 15 = .ok (.ifCond .ne 7, 3) := dk_154 0 7 (dk_at dksX8_rowFor_0 15 rfl rfl)
theorem dX8_rowFor_18 : decode cX8_rowFor 18 = .ok (.sipush (-1000), 3) := dk_17 252 24 (dk_at dksX8_rowFor_0 18 rfl rfl)
theorem dX8_rowFor_21 : decode cX8_rowFor 21 = .ok (.ireturn, 1) := dk_172 (dk_at dksX8_rowFor_0 21 rfl rfl)
theorem dX8_rowFor_22 : decode cX8_rowFor 22 = .ok (.iconst (-1), 1) := dk_2 (dk_at dksX8_rowFor_0 22 rfl rfl)
theorem dX8_rowFor_23 : decode cX8_rowFor 23 = .ok (.istore_n 3, 1) := dk_62 (dk_at dksX8_rowFor_0 23 rfl rfl)
theorem dX8_rowFor_24 : decode cX8_rowFor 24 = .ok (.iconst 0, 1) := dk_3 (dk_at dksX8_rowFor_1 0 rfl rfl)
theorem dX8_rowFor_25 : decode cX8_rowFor 25 = .ok (.istore 4, 2) := dk_54 4 (dk_at dksX8_rowFor_1 1 rfl rfl)
theorem dX8_rowFor_27 : decode cX8_rowFor 27 = .ok (.iconst 0, 1) := dk_3 (dk_at dksX8_rowFor_1 3 rfl rfl)
theorem dX8_rowFor_28 : decode cX8_rowFor 28 = .ok (.istore 5, 2) := dk_54 5 (dk_at dksX8_rowFor_1 4 rfl rfl)
theorem dX8_rowFor_30 : decode cX8_rowFor 30 = .ok (.iload 5, 2) := dk_21 5 (dk_at dksX8_rowFor_1 6 rfl rfl)
theorem dX8_rowFor_32 : decode cX8_rowFor 32 = .ok (.iconst 4, 1) := dk_7 (dk_at dksX8_rowFor_1 8 rfl rfl)
theorem dX8_rowFor_33 : decode cX8_rowFor 33 = .ok (.if_icmp .ge 38, 3) := dk_162 0 38 (dk_at dksX8_rowFor_1 9 rfl rfl)
theorem dX8_rowFor_36 : decode cX8_rowFor 36 = .ok (.aload_n 0, 1) := dk_42 (dk_at dksX8_rowFor_1 12 rfl rfl)
theorem dX8_rowFor_37 : decode cX8_rowFor 37 = .ok (.iload_n 1, 1) := dk_27 (dk_at dksX8_rowFor_1 13 rfl rfl)
theorem dX8_rowFor_38 : decode cX8_rowFor 38 = .ok (.iload 5, 2) := dk_21 5 (dk_at dksX8_rowFor_1 14 rfl rfl)
theorem dX8_rowFor_40 : decode cX8_rowFor 40 = .ok (.iconst 0, 1) := dk_3 (dk_at dksX8_rowFor_1 16 rfl rfl)
theorem dX8_rowFor_41 : decode cX8_rowFor 41 = .ok (.invokevirtual 303, 3) := dk_182 1 47 (dk_at dksX8_rowFor_1 17 rfl rfl)
theorem dX8_rowFor_44 : decode cX8_rowFor 44 = .ok (.istore 6, 2) := dk_54 6 (dk_at dksX8_rowFor_1 20 rfl rfl)
theorem dX8_rowFor_46 : decode cX8_rowFor 46 = .ok (.iload_n 3, 1) := dk_29 (dk_at dksX8_rowFor_1 22 rfl rfl)
theorem dX8_rowFor_47 : decode cX8_rowFor 47 = .ok (.iconst (-1), 1) := dk_2 (dk_at dksX8_rowFor_1 23 rfl rfl)
theorem dX8_rowFor_48 : decode cX8_rowFor 48 = .ok (.if_icmp .eq 10, 3) := dk_159 0 10 (dk_at dksX8_rowFor_2 0 rfl rfl)
theorem dX8_rowFor_51 : decode cX8_rowFor 51 = .ok (.iload 6, 2) := dk_21 6 (dk_at dksX8_rowFor_2 3 rfl rfl)
theorem dX8_rowFor_53 : decode cX8_rowFor 53 = .ok (.iload 4, 2) := dk_21 4 (dk_at dksX8_rowFor_2 5 rfl rfl)
theorem dX8_rowFor_55 : decode cX8_rowFor 55 = .ok (.if_icmp .le 10, 3) := dk_164 0 10 (dk_at dksX8_rowFor_2 7 rfl rfl)
theorem dX8_rowFor_58 : decode cX8_rowFor 58 = .ok (.iload 5, 2) := dk_21 5 (dk_at dksX8_rowFor_2 10 rfl rfl)
theorem dX8_rowFor_60 : decode cX8_rowFor 60 = .ok (.istore_n 3, 1) := dk_62 (dk_at dksX8_rowFor_2 12 rfl rfl)
theorem dX8_rowFor_61 : decode cX8_rowFor 61 = .ok (.iload 6, 2) := dk_21 6 (dk_at dksX8_rowFor_2 13 rfl rfl)
theorem dX8_rowFor_63 : decode cX8_rowFor 63 = .ok (.istore 4, 2) := dk_54 4 (dk_at dksX8_rowFor_2 15 rfl rfl)
theorem dX8_rowFor_65 : decode cX8_rowFor 65 = .ok (.iinc 5 1, 3) := dk_132 5 1 (dk_at dksX8_rowFor_2 17 rfl rfl)
theorem dX8_rowFor_68 : decode cX8_rowFor 68 = .ok (.goto (-38), 3) := dk_167 255 218 (dk_at dksX8_rowFor_2 20 rfl rfl)
theorem dX8_rowFor_71 : decode cX8_rowFor 71 = .ok (.iload_n 2, 1) := dk_28 (dk_at dksX8_rowFor_2 23 rfl rfl)
theorem dX8_rowFor_72 : decode cX8_rowFor 72 = .ok (.ifCond .ne 7, 3) := dk_154 0 7 (dk_at dksX8_rowFor_3 0 rfl rfl)
theorem dX8_rowFor_75 : decode cX8_rowFor 75 = .ok (.iload_n 3, 1) := dk_29 (dk_at dksX8_rowFor_3 3 rfl rfl)
theorem dX8_rowFor_76 : decode cX8_rowFor 76 = .ok (.goto 5, 3) := dk_167 0 5 (dk_at dksX8_rowFor_3 4 rfl rfl)
theorem dX8_rowFor_79 : decode cX8_rowFor 79 = .ok (.iload 4, 2) := dk_21 4 (dk_at dksX8_rowFor_3 7 rfl rfl)
theorem dX8_rowFor_81 : decode cX8_rowFor 81 = .ok (.ireturn, 1) := dk_172 (dk_at dksX8_rowFor_3 9 rfl rfl)
abbrev cX8_longest : ByteArray := prog_16_method_64_code
def yX8_longest : MethodName := ⟨RX8, "longest", "()I"⟩
def dkwX8_longest_2 : List UInt8 := [42, 180, 0, 38, 21, 5, 46, 61, 132, 5, 1, 167, 255, 219, 132, 3, 1, 167, 255, 198, 27, 172]
abbrev dktX8_longest_2 : List UInt8 := dkwX8_longest_2 ++ []
def dkwX8_longest_1 : List UInt8 := [21, 4, 162, 0, 36, 42, 180, 0, 38, 21, 5, 46, 28, 164, 0, 19, 16, 100, 29, 104, 21, 5, 96, 60]
abbrev dktX8_longest_1 : List UInt8 := dkwX8_longest_1 ++ dktX8_longest_2
def dkwX8_longest_0 : List UInt8 := [2, 60, 3, 61, 3, 62, 29, 7, 162, 0, 59, 42, 29, 182, 0, 141, 54, 4, 3, 54, 5, 21, 5]
abbrev dktX8_longest_0 : List UInt8 := dkwX8_longest_0 ++ dktX8_longest_1
theorem dksX8_longest_0 : cX8_longest.data.toList.drop 0 = dktX8_longest_0 := by decide +kernel
theorem dksX8_longest_1 : cX8_longest.data.toList.drop 23 = dktX8_longest_1 := dk_seg dksX8_longest_0 23 rfl rfl
theorem dksX8_longest_2 : cX8_longest.data.toList.drop 47 = dktX8_longest_2 := dk_seg dksX8_longest_1 24 rfl rfl
theorem dX8_longest_0 : decode cX8_longest 0 = .ok (.iconst (-1), 1) := dk_2 (dk_at dksX8_longest_0 0 rfl rfl)
theorem dX8_longest_1 : decode cX8_longest 1 = .ok (.istore_n 1, 1) := dk_60 (dk_at dksX8_longest_0 1 rfl rfl)
theorem dX8_longest_2 : decode cX8_longest 2 = .ok (.iconst 0, 1) := dk_3 (dk_at dksX8_longest_0 2 rfl rfl)
theorem dX8_longest_3 : decode cX8_longest 3 = .ok (.istore_n 2, 1) := dk_61 (dk_at dksX8_longest_0 3 rfl rfl)
theorem dX8_longest_4 : decode cX8_longest 4 = .ok (.iconst 0, 1) := dk_3 (dk_at dksX8_longest_0 4 rfl rfl)
theorem dX8_longest_5 : decode cX8_longest 5 = .ok (.istore_n 3, 1) := dk_62 (dk_at dksX8_longest_0 5 rfl rfl)
theorem dX8_longest_6 : decode cX8_longest 6 = .ok (.iload_n 3, 1) := dk_29 (dk_at dksX8_longest_0 6 rfl rfl)
theorem dX8_longest_7 : decode cX8_longest 7 = .ok (.iconst 4, 1) := dk_7 (dk_at dksX8_longest_0 7 rfl rfl)
theorem dX8_longest_8 : decode cX8_longest 8 = .ok (.if_icmp .ge 59, 3) := dk_162 0 59 (dk_at dksX8_longest_0 8 rfl rfl)
theorem dX8_longest_11 : decode cX8_longest 11 = .ok (.aload_n 0, 1) := dk_42 (dk_at dksX8_longest_0 11 rfl rfl)
theorem dX8_longest_12 : decode cX8_longest 12 = .ok (.iload_n 3, 1) := dk_29 (dk_at dksX8_longest_0 12 rfl rfl)
theorem dX8_longest_13 : decode cX8_longest 13 = .ok (.invokevirtual 141, 3) := dk_182 0 141 (dk_at dksX8_longest_0 13 rfl rfl)
theorem dX8_longest_16 : decode cX8_longest 16 = .ok (.istore 4, 2) := dk_54 4 (dk_at dksX8_longest_0 16 rfl rfl)
theorem dX8_longest_18 : decode cX8_longest 18 = .ok (.iconst 0, 1) := dk_3 (dk_at dksX8_longest_0 18 rfl rfl)
theorem dX8_longest_19 : decode cX8_longest 19 = .ok (.istore 5, 2) := dk_54 5 (dk_at dksX8_longest_0 19 rfl rfl)
theorem dX8_longest_21 : decode cX8_longest 21 = .ok (.iload 5, 2) := dk_21 5 (dk_at dksX8_longest_0 21 rfl rfl)
theorem dX8_longest_23 : decode cX8_longest 23 = .ok (.iload 4, 2) := dk_21 4 (dk_at dksX8_longest_1 0 rfl rfl)
theorem dX8_longest_25 : decode cX8_longest 25 = .ok (.if_icmp .ge 36, 3) := dk_162 0 36 (dk_at dksX8_longest_1 2 rfl rfl)
theorem dX8_longest_28 : decode cX8_longest 28 = .ok (.aload_n 0, 1) := dk_42 (dk_at dksX8_longest_1 5 rfl rfl)
theorem dX8_longest_29 : decode cX8_longest 29 = .ok (.getfield 38, 3) := dk_180 0 38 (dk_at dksX8_longest_1 6 rfl rfl)
theorem dX8_longest_32 : decode cX8_longest 32 = .ok (.iload 5, 2) := dk_21 5 (dk_at dksX8_longest_1 9 rfl rfl)
theorem dX8_longest_34 : decode cX8_longest 34 = .ok (.iaload, 1) := dk_46 (dk_at dksX8_longest_1 11 rfl rfl)
theorem dX8_longest_35 : decode cX8_longest 35 = .ok (.iload_n 2, 1) := dk_28 (dk_at dksX8_longest_1 12 rfl rfl)
theorem dX8_longest_36 : decode cX8_longest 36 = .ok (.if_icmp .le 19, 3) := dk_164 0 19 (dk_at dksX8_longest_1 13 rfl rfl)
theorem dX8_longest_39 : decode cX8_longest 39 = .ok (.bipush 100, 2) := dk_16 100 (dk_at dksX8_longest_1 16 rfl rfl)
theorem dX8_longest_41 : decode cX8_longest 41 = .ok (.iload_n 3, 1) := dk_29 (dk_at dksX8_longest_1 18 rfl rfl)
theorem dX8_longest_42 : decode cX8_longest 42 = .ok (.imul, 1) := dk_104 (dk_at dksX8_longest_1 19 rfl rfl)
theorem dX8_longest_43 : decode cX8_longest 43 = .ok (.iload 5, 2) := dk_21 5 (dk_at dksX8_longest_1 20 rfl rfl)
theorem dX8_longest_45 : decode cX8_longest 45 = .ok (.iadd, 1) := dk_96 (dk_at dksX8_longest_1 22 rfl rfl)
theorem dX8_longest_46 : decode cX8_longest 46 = .ok (.istore_n 1, 1) := dk_60 (dk_at dksX8_longest_1 23 rfl rfl)
theorem dX8_longest_47 : decode cX8_longest 47 = .ok (.aload_n 0, 1) := dk_42 (dk_at dksX8_longest_2 0 rfl rfl)
theorem dX8_longest_48 : decode cX8_longest 48 = .ok (.getfield 38, 3) := dk_180 0 38 (dk_at dksX8_longest_2 1 rfl rfl)
theorem dX8_longest_51 : decode cX8_longest 51 = .ok (.iload 5, 2) := dk_21 5 (dk_at dksX8_longest_2 4 rfl rfl)
theorem dX8_longest_53 : decode cX8_longest 53 = .ok (.iaload, 1) := dk_46 (dk_at dksX8_longest_2 6 rfl rfl)
theorem dX8_longest_54 : decode cX8_longest 54 = .ok (.istore_n 2, 1) := dk_61 (dk_at dksX8_longest_2 7 rfl rfl)
theorem dX8_longest_55 : decode cX8_longest 55 = .ok (.iinc 5 1, 3) := dk_132 5 1 (dk_at dksX8_longest_2 8 rfl rfl)
theorem dX8_longest_58 : decode cX8_longest 58 = .ok (.goto (-37), 3) := dk_167 255 219 (dk_at dksX8_longest_2 11 rfl rfl)
theorem dX8_longest_61 : decode cX8_longest 61 = .ok (.iinc 3 1, 3) := dk_132 3 1 (dk_at dksX8_longest_2 14 rfl rfl)
theorem dX8_longest_64 : decode cX8_longest 64 = .ok (.goto (-58), 3) := dk_167 255 198 (dk_at dksX8_longest_2 17 rfl rfl)
theorem dX8_longest_67 : decode cX8_longest 67 = .ok (.iload_n 1, 1) := dk_27 (dk_at dksX8_longest_2 20 rfl rfl)
theorem dX8_longest_68 : decode cX8_longest 68 = .ok (.ireturn, 1) := dk_172 (dk_at dksX8_longest_2 21 rfl rfl)
abbrev cX8_close : ByteArray := prog_16_method_66_code
def yX8_close : MethodName := ⟨RX8, "close", "(I)J"⟩
def dkwX8_close_2 : List UInt8 := [133, 28, 133, 27, 184, 1, 74, 167, 0, 6, 20, 1, 78, 173]
abbrev dktX8_close_2 : List UInt8 := dkwX8_close_2 ++ []
def dkwX8_close_1 : List UInt8 := [6, 46, 96, 61, 27, 133, 9, 10, 184, 0, 91, 153, 0, 23, 28, 158, 0, 19, 28, 42, 182, 1, 38, 100]
abbrev dktX8_close_1 : List UInt8 := dkwX8_close_1 ++ dktX8_close_2
def dkwX8_close_0 : List UInt8 := [42, 180, 0, 26, 3, 46, 42, 180, 0, 26, 4, 46, 96, 42, 180, 0, 26, 5, 46, 96, 42, 180, 0, 26]
abbrev dktX8_close_0 : List UInt8 := dkwX8_close_0 ++ dktX8_close_1
theorem dksX8_close_0 : cX8_close.data.toList.drop 0 = dktX8_close_0 := by decide +kernel
theorem dksX8_close_1 : cX8_close.data.toList.drop 24 = dktX8_close_1 := dk_seg dksX8_close_0 24 rfl rfl
theorem dksX8_close_2 : cX8_close.data.toList.drop 48 = dktX8_close_2 := dk_seg dksX8_close_1 24 rfl rfl
theorem dX8_close_0 : decode cX8_close 0 = .ok (.aload_n 0, 1) := dk_42 (dk_at dksX8_close_0 0 rfl rfl)
theorem dX8_close_1 : decode cX8_close 1 = .ok (.getfield 26, 3) := dk_180 0 26 (dk_at dksX8_close_0 1 rfl rfl)
theorem dX8_close_4 : decode cX8_close 4 = .ok (.iconst 0, 1) := dk_3 (dk_at dksX8_close_0 4 rfl rfl)
theorem dX8_close_5 : decode cX8_close 5 = .ok (.iaload, 1) := dk_46 (dk_at dksX8_close_0 5 rfl rfl)
theorem dX8_close_6 : decode cX8_close 6 = .ok (.aload_n 0, 1) := dk_42 (dk_at dksX8_close_0 6 rfl rfl)
theorem dX8_close_7 : decode cX8_close 7 = .ok (.getfield 26, 3) := dk_180 0 26 (dk_at dksX8_close_0 7 rfl rfl)
theorem dX8_close_10 : decode cX8_close 10 = .ok (.iconst 1, 1) := dk_4 (dk_at dksX8_close_0 10 rfl rfl)
theorem dX8_close_11 : decode cX8_close 11 = .ok (.iaload, 1) := dk_46 (dk_at dksX8_close_0 11 rfl rfl)
theorem dX8_close_12 : decode cX8_close 12 = .ok (.iadd, 1) := dk_96 (dk_at dksX8_close_0 12 rfl rfl)
theorem dX8_close_13 : decode cX8_close 13 = .ok (.aload_n 0, 1) := dk_42 (dk_at dksX8_close_0 13 rfl rfl)
theorem dX8_close_14 : decode cX8_close 14 = .ok (.getfield 26, 3) := dk_180 0 26 (dk_at dksX8_close_0 14 rfl rfl)
theorem dX8_close_17 : decode cX8_close 17 = .ok (.iconst 2, 1) := dk_5 (dk_at dksX8_close_0 17 rfl rfl)
theorem dX8_close_18 : decode cX8_close 18 = .ok (.iaload, 1) := dk_46 (dk_at dksX8_close_0 18 rfl rfl)
theorem dX8_close_19 : decode cX8_close 19 = .ok (.iadd, 1) := dk_96 (dk_at dksX8_close_0 19 rfl rfl)
theorem dX8_close_20 : decode cX8_close 20 = .ok (.aload_n 0, 1) := dk_42 (dk_at dksX8_close_0 20 rfl rfl)
theorem dX8_close_21 : decode cX8_close 21 = .ok (.getfield 26, 3) := dk_180 0 26 (dk_at dksX8_close_0 21 rfl rfl)
theorem dX8_close_24 : decode cX8_close 24 = .ok (.iconst 3, 1) := dk_6 (dk_at dksX8_close_1 0 rfl rfl)
theorem dX8_close_25 : decode cX8_close 25 = .ok (.iaload, 1) := dk_46 (dk_at dksX8_close_1 1 rfl rfl)
theorem dX8_close_26 : decode cX8_close 26 = .ok (.iadd, 1) := dk_96 (dk_at dksX8_close_1 2 rfl rfl)
theorem dX8_close_27 : decode cX8_close 27 = .ok (.istore_n 2, 1) := dk_61 (dk_at dksX8_close_1 3 rfl rfl)
theorem dX8_close_28 : decode cX8_close 28 = .ok (.iload_n 1, 1) := dk_27 (dk_at dksX8_close_1 4 rfl rfl)
theorem dX8_close_29 : decode cX8_close 29 = .ok (.i2l, 1) := dk_133 (dk_at dksX8_close_1 5 rfl rfl)
theorem dX8_close_30 : decode cX8_close 30 = .ok (.lconst 0, 1) := dk_9 (dk_at dksX8_close_1 6 rfl rfl)
theorem dX8_close_31 : decode cX8_close 31 = .ok (.lconst 1, 1) := dk_10 (dk_at dksX8_close_1 7 rfl rfl)
theorem dX8_close_32 : decode cX8_close 32 = .ok (.invokestatic 91, 3) := dk_184 0 91 (dk_at dksX8_close_1 8 rfl rfl)
theorem dX8_close_35 : decode cX8_close 35 = .ok (.ifCond .eq 23, 3) := dk_153 0 23 (dk_at dksX8_close_1 11 rfl rfl)
theorem dX8_close_38 : decode cX8_close 38 = .ok (.iload_n 2, 1) := dk_28 (dk_at dksX8_close_1 14 rfl rfl)
theorem dX8_close_39 : decode cX8_close 39 = .ok (.ifCond .le 19, 3) := dk_158 0 19 (dk_at dksX8_close_1 15 rfl rfl)
theorem dX8_close_42 : decode cX8_close 42 = .ok (.iload_n 2, 1) := dk_28 (dk_at dksX8_close_1 18 rfl rfl)
theorem dX8_close_43 : decode cX8_close 43 = .ok (.aload_n 0, 1) := dk_42 (dk_at dksX8_close_1 19 rfl rfl)
theorem dX8_close_44 : decode cX8_close 44 = .ok (.invokevirtual 294, 3) := dk_182 1 38 (dk_at dksX8_close_1 20 rfl rfl)
theorem dX8_close_47 : decode cX8_close 47 = .ok (.isub, 1) := dk_100 (dk_at dksX8_close_1 23 rfl rfl)
theorem dX8_close_48 : decode cX8_close 48 = .ok (.i2l, 1) := dk_133 (dk_at dksX8_close_2 0 rfl rfl)
theorem dX8_close_49 : decode cX8_close 49 = .ok (.iload_n 2, 1) := dk_28 (dk_at dksX8_close_2 1 rfl rfl)
theorem dX8_close_50 : decode cX8_close 50 = .ok (.i2l, 1) := dk_133 (dk_at dksX8_close_2 2 rfl rfl)
theorem dX8_close_51 : decode cX8_close 51 = .ok (.iload_n 1, 1) := dk_27 (dk_at dksX8_close_2 3 rfl rfl)
theorem dX8_close_52 : decode cX8_close 52 = .ok (.invokestatic 330, 3) := dk_184 1 74 (dk_at dksX8_close_2 4 rfl rfl)
theorem dX8_close_55 : decode cX8_close 55 = .ok (.goto 6, 3) := dk_167 0 6 (dk_at dksX8_close_2 7 rfl rfl)
theorem dX8_close_58 : decode cX8_close 58 = .ok (.ldc2_w 334, 3) := dk_20 1 78 (dk_at dksX8_close_2 10 rfl rfl)
theorem dX8_close_61 : decode cX8_close 61 = .ok (.lreturn, 1) := dk_173 (dk_at dksX8_close_2 13 rfl rfl)
abbrev cX8_lowest : ByteArray := prog_16_method_65_code
def yX8_lowest : MethodName := ⟨RX8, "lowest", "(JJI)J"⟩
def dkwX8_lowest_1 : List UInt8 := [22, 9, 55, 7, 167, 255, 234, 21, 4, 154, 0, 10, 30, 22, 5, 109, 167, 0, 7, 32, 22, 5, 109, 173]
abbrev dktX8_lowest_1 : List UInt8 := dkwX8_lowest_1 ++ []
def dkwX8_lowest_0 : List UInt8 := [30, 55, 5, 32, 55, 7, 22, 7, 9, 148, 153, 0, 21, 22, 5, 22, 7, 113, 55, 9, 22, 7, 55, 5]
abbrev dktX8_lowest_0 : List UInt8 := dkwX8_lowest_0 ++ dktX8_lowest_1
theorem dksX8_lowest_0 : cX8_lowest.data.toList.drop 0 = dktX8_lowest_0 := by decide +kernel
theorem dksX8_lowest_1 : cX8_lowest.data.toList.drop 24 = dktX8_lowest_1 := dk_seg dksX8_lowest_0 24 rfl rfl
theorem dX8_lowest_0 : decode cX8_lowest 0 = .ok (.lload_n 0, 1) := dk_30 (dk_at dksX8_lowest_0 0 rfl rfl)
theorem dX8_lowest_1 : decode cX8_lowest 1 = .ok (.lstore 5, 2) := dk_55 5 (dk_at dksX8_lowest_0 1 rfl rfl)
theorem dX8_lowest_3 : decode cX8_lowest 3 = .ok (.lload_n 2, 1) := dk_32 (dk_at dksX8_lowest_0 3 rfl rfl)
theorem dX8_lowest_4 : decode cX8_lowest 4 = .ok (.lstore 7, 2) := dk_55 7 (dk_at dksX8_lowest_0 4 rfl rfl)
theorem dX8_lowest_6 : decode cX8_lowest 6 = .ok (.lload 7, 2) := dk_22 7 (dk_at dksX8_lowest_0 6 rfl rfl)
theorem dX8_lowest_8 : decode cX8_lowest 8 = .ok (.lconst 0, 1) := dk_9 (dk_at dksX8_lowest_0 8 rfl rfl)
theorem dX8_lowest_9 : decode cX8_lowest 9 = .ok (.lcmp, 1) := dk_148 (dk_at dksX8_lowest_0 9 rfl rfl)
theorem dX8_lowest_10 : decode cX8_lowest 10 = .ok (.ifCond .eq 21, 3) := dk_153 0 21 (dk_at dksX8_lowest_0 10 rfl rfl)
theorem dX8_lowest_13 : decode cX8_lowest 13 = .ok (.lload 5, 2) := dk_22 5 (dk_at dksX8_lowest_0 13 rfl rfl)
theorem dX8_lowest_15 : decode cX8_lowest 15 = .ok (.lload 7, 2) := dk_22 7 (dk_at dksX8_lowest_0 15 rfl rfl)
theorem dX8_lowest_17 : decode cX8_lowest 17 = .ok (.lrem, 1) := dk_113 (dk_at dksX8_lowest_0 17 rfl rfl)
theorem dX8_lowest_18 : decode cX8_lowest 18 = .ok (.lstore 9, 2) := dk_55 9 (dk_at dksX8_lowest_0 18 rfl rfl)
theorem dX8_lowest_20 : decode cX8_lowest 20 = .ok (.lload 7, 2) := dk_22 7 (dk_at dksX8_lowest_0 20 rfl rfl)
theorem dX8_lowest_22 : decode cX8_lowest 22 = .ok (.lstore 5, 2) := dk_55 5 (dk_at dksX8_lowest_0 22 rfl rfl)
theorem dX8_lowest_24 : decode cX8_lowest 24 = .ok (.lload 9, 2) := dk_22 9 (dk_at dksX8_lowest_1 0 rfl rfl)
theorem dX8_lowest_26 : decode cX8_lowest 26 = .ok (.lstore 7, 2) := dk_55 7 (dk_at dksX8_lowest_1 2 rfl rfl)
theorem dX8_lowest_28 : decode cX8_lowest 28 = .ok (.goto (-22), 3) := dk_167 255 234 (dk_at dksX8_lowest_1 4 rfl rfl)
theorem dX8_lowest_31 : decode cX8_lowest 31 = .ok (.iload 4, 2) := dk_21 4 (dk_at dksX8_lowest_1 7 rfl rfl)
theorem dX8_lowest_33 : decode cX8_lowest 33 = .ok (.ifCond .ne 10, 3) := dk_154 0 10 (dk_at dksX8_lowest_1 9 rfl rfl)
theorem dX8_lowest_36 : decode cX8_lowest 36 = .ok (.lload_n 0, 1) := dk_30 (dk_at dksX8_lowest_1 12 rfl rfl)
theorem dX8_lowest_37 : decode cX8_lowest 37 = .ok (.lload 5, 2) := dk_22 5 (dk_at dksX8_lowest_1 13 rfl rfl)
theorem dX8_lowest_39 : decode cX8_lowest 39 = .ok (.ldiv, 1) := dk_109 (dk_at dksX8_lowest_1 15 rfl rfl)
theorem dX8_lowest_40 : decode cX8_lowest 40 = .ok (.goto 7, 3) := dk_167 0 7 (dk_at dksX8_lowest_1 16 rfl rfl)
theorem dX8_lowest_43 : decode cX8_lowest 43 = .ok (.lload_n 2, 1) := dk_32 (dk_at dksX8_lowest_1 19 rfl rfl)
theorem dX8_lowest_44 : decode cX8_lowest 44 = .ok (.lload 5, 2) := dk_22 5 (dk_at dksX8_lowest_1 20 rfl rfl)
theorem dX8_lowest_46 : decode cX8_lowest 46 = .ok (.ldiv, 1) := dk_109 (dk_at dksX8_lowest_1 22 rfl rfl)
theorem dX8_lowest_47 : decode cX8_lowest 47 = .ok (.lreturn, 1) := dk_173 (dk_at dksX8_lowest_1 23 rfl rfl)
abbrev cX8_tells : ByteArray := prog_16_method_70_code
def yX8_tells : MethodName := ⟨RX8, "tells", "(IIII)I"⟩
def dkwX8_tells_13 : List UInt8 := [167, 0, 5, 21, 8, 172]
abbrev dktX8_tells_13 : List UInt8 := dkwX8_tells_13 ++ []
def dkwX8_tells_12 : List UInt8 := [182, 0, 122, 21, 4, 6, 160, 0, 8, 21, 9, 167, 0, 16, 21, 4, 7, 160, 0, 8, 21, 10]
abbrev dktX8_tells_12 : List UInt8 := dkwX8_tells_12 ++ dktX8_tells_13
def dkwX8_tells_11 : List UInt8 := [3, 128, 54, 8, 132, 9, 1, 21, 11, 54, 10, 132, 11, 255, 167, 255, 201, 42, 21, 5, 28, 21, 6]
abbrev dktX8_tells_11 : List UInt8 := dkwX8_tells_11 ++ dktX8_tells_12
def dkwX8_tells_10 : List UInt8 := [29, 182, 1, 80, 2, 160, 0, 30, 21, 8, 21, 11, 16, 10, 162, 0, 10, 4, 21, 11, 120, 167, 0, 4]
abbrev dktX8_tells_10 : List UInt8 := dkwX8_tells_10 ++ dktX8_tells_11
def dkwX8_tells_9 : List UInt8 := [2, 54, 10, 21, 7, 54, 11, 21, 11, 155, 0, 56, 42, 21, 5, 28, 21, 11, 182, 0, 122, 42, 27, 28]
abbrev dktX8_tells_9 : List UInt8 := dkwX8_tells_9 ++ dktX8_tells_10
def dkwX8_tells_8 : List UInt8 := [167, 0, 16, 21, 5, 4, 160, 0, 8, 16, 9, 167, 0, 5, 16, 99, 54, 7, 3, 54, 8, 3, 54, 9]
abbrev dktX8_tells_8 : List UInt8 := dkwX8_tells_8 ++ dktX8_tells_9
def dkwX8_tells_7 : List UInt8 := [21, 5, 7, 160, 0, 12, 42, 180, 0, 85, 4, 100, 167, 0, 26, 21, 5, 6, 160, 0, 7, 8]
abbrev dktX8_tells_7 : List UInt8 := dkwX8_tells_7 ++ dktX8_tells_8
def dkwX8_tells_6 : List UInt8 := [54, 5, 21, 5, 7, 160, 0, 10, 42, 180, 0, 129, 167, 0, 10, 42, 28, 21, 5, 182, 0, 118, 54, 6]
abbrev dktX8_tells_6 : List UInt8 := dkwX8_tells_6 ++ dktX8_tells_7
def dkwX8_tells_5 : List UInt8 := [167, 0, 24, 21, 4, 5, 160, 0, 7, 4, 167, 0, 14, 21, 4, 8, 160, 0, 7, 7, 167, 0, 4, 5]
abbrev dktX8_tells_5 : List UInt8 := dkwX8_tells_5 ++ dktX8_tells_6
def dkwX8_tells_4 : List UInt8 := [42, 27, 29, 182, 1, 88, 167, 0, 9, 42, 27, 28, 182, 1, 91, 172, 21, 4, 4, 160, 0, 7, 6]
abbrev dktX8_tells_4 : List UInt8 := dkwX8_tells_4 ++ dktX8_tells_5
def dkwX8_tells_3 : List UInt8 := [154, 0, 11, 42, 27, 28, 29, 182, 1, 80, 172, 21, 4, 8, 164, 0, 26, 21, 4, 16, 6, 160, 0, 12]
abbrev dktX8_tells_3 : List UInt8 := dkwX8_tells_3 ++ dktX8_tells_4
def dkwX8_tells_2 : List UInt8 := [16, 245, 172, 42, 180, 0, 75, 27, 46, 42, 29, 182, 0, 141, 164, 0, 6, 16, 254, 172, 21, 4]
abbrev dktX8_tells_2 : List UInt8 := dkwX8_tells_2 ++ dktX8_tells_3
def dkwX8_tells_1 : List UInt8 := [133, 9, 20, 1, 86, 184, 0, 91, 154, 0, 6, 16, 254, 172, 42, 180, 0, 68, 27, 51, 154, 0, 6]
abbrev dktX8_tells_1 : List UInt8 := dkwX8_tells_1 ++ dktX8_tells_2
def dkwX8_tells_0 : List UInt8 := [27, 184, 1, 83, 153, 0, 31, 42, 28, 182, 0, 112, 153, 0, 23, 29, 184, 0, 97, 153, 0, 16, 21, 4]
abbrev dktX8_tells_0 : List UInt8 := dkwX8_tells_0 ++ dktX8_tells_1
theorem dksX8_tells_0 : cX8_tells.data.toList.drop 0 = dktX8_tells_0 := by decide +kernel
theorem dksX8_tells_1 : cX8_tells.data.toList.drop 24 = dktX8_tells_1 := dk_seg dksX8_tells_0 24 rfl rfl
theorem dksX8_tells_2 : cX8_tells.data.toList.drop 47 = dktX8_tells_2 := dk_seg dksX8_tells_1 23 rfl rfl
theorem dksX8_tells_3 : cX8_tells.data.toList.drop 69 = dktX8_tells_3 := dk_seg dksX8_tells_2 22 rfl rfl
theorem dksX8_tells_4 : cX8_tells.data.toList.drop 93 = dktX8_tells_4 := dk_seg dksX8_tells_3 24 rfl rfl
theorem dksX8_tells_5 : cX8_tells.data.toList.drop 116 = dktX8_tells_5 := dk_seg dksX8_tells_4 23 rfl rfl
theorem dksX8_tells_6 : cX8_tells.data.toList.drop 140 = dktX8_tells_6 := dk_seg dksX8_tells_5 24 rfl rfl
theorem dksX8_tells_7 : cX8_tells.data.toList.drop 164 = dktX8_tells_7 := dk_seg dksX8_tells_6 24 rfl rfl
theorem dksX8_tells_8 : cX8_tells.data.toList.drop 186 = dktX8_tells_8 := dk_seg dksX8_tells_7 22 rfl rfl
theorem dksX8_tells_9 : cX8_tells.data.toList.drop 210 = dktX8_tells_9 := dk_seg dksX8_tells_8 24 rfl rfl
theorem dksX8_tells_10 : cX8_tells.data.toList.drop 234 = dktX8_tells_10 := dk_seg dksX8_tells_9 24 rfl rfl
theorem dksX8_tells_11 : cX8_tells.data.toList.drop 258 = dktX8_tells_11 := dk_seg dksX8_tells_10 24 rfl rfl
theorem dksX8_tells_12 : cX8_tells.data.toList.drop 281 = dktX8_tells_12 := dk_seg dksX8_tells_11 23 rfl rfl
theorem dksX8_tells_13 : cX8_tells.data.toList.drop 303 = dktX8_tells_13 := dk_seg dksX8_tells_12 22 rfl rfl
theorem dX8_tells_0 : decode cX8_tells 0 = .ok (.iload_n 1, 1) := dk_27 (dk_at dksX8_tells_0 0 rfl rfl)
theorem dX8_tells_1 : decode cX8_tells 1 = .ok (.invokestatic 339, 3) := dk_184 1 83 (dk_at dksX8_tells_0 1 rfl rfl)
theorem dX8_tells_4 : decode cX8_tells 4 = .ok (.ifCond .eq 31, 3) := dk_153 0 31 (dk_at dksX8_tells_0 4 rfl rfl)
theorem dX8_tells_7 : decode cX8_tells 7 = .ok (.aload_n 0, 1) := dk_42 (dk_at dksX8_tells_0 7 rfl rfl)
theorem dX8_tells_8 : decode cX8_tells 8 = .ok (.iload_n 2, 1) := dk_28 (dk_at dksX8_tells_0 8 rfl rfl)
theorem dX8_tells_9 : decode cX8_tells 9 = .ok (.invokevirtual 112, 3) := dk_182 0 112 (dk_at dksX8_tells_0 9 rfl rfl)
theorem dX8_tells_12 : decode cX8_tells 12 = .ok (.ifCond .eq 23, 3) := dk_153 0 23 (dk_at dksX8_tells_0 12 rfl rfl)
theorem dX8_tells_15 : decode cX8_tells 15 = .ok (.iload_n 3, 1) := dk_29 (dk_at dksX8_tells_0 15 rfl rfl)
theorem dX8_tells_16 : decode cX8_tells 16 = .ok (.invokestatic 97, 3) := dk_184 0 97 (dk_at dksX8_tells_0 16 rfl rfl)
theorem dX8_tells_19 : decode cX8_tells 19 = .ok (.ifCond .eq 16, 3) := dk_153 0 16 (dk_at dksX8_tells_0 19 rfl rfl)
theorem dX8_tells_22 : decode cX8_tells 22 = .ok (.iload 4, 2) := dk_21 4 (dk_at dksX8_tells_0 22 rfl rfl)
theorem dX8_tells_24 : decode cX8_tells 24 = .ok (.i2l, 1) := dk_133 (dk_at dksX8_tells_1 0 rfl rfl)
theorem dX8_tells_25 : decode cX8_tells 25 = .ok (.lconst 0, 1) := dk_9 (dk_at dksX8_tells_1 1 rfl rfl)
theorem dX8_tells_26 : decode cX8_tells 26 = .ok (.ldc2_w 342, 3) := dk_20 1 86 (dk_at dksX8_tells_1 2 rfl rfl)
theorem dX8_tells_29 : decode cX8_tells 29 = .ok (.invokestatic 91, 3) := dk_184 0 91 (dk_at dksX8_tells_1 5 rfl rfl)
theorem dX8_tells_32 : decode cX8_tells 32 = .ok (.ifCond .ne 6, 3) := dk_154 0 6 (dk_at dksX8_tells_1 8 rfl rfl)
theorem dX8_tells_35 : decode cX8_tells 35 = .ok (.bipush (-2), 2) := dk_16 254 (dk_at dksX8_tells_1 11 rfl rfl)
theorem dX8_tells_37 : decode cX8_tells 37 = .ok (.ireturn, 1) := dk_172 (dk_at dksX8_tells_1 13 rfl rfl)
theorem dX8_tells_38 : decode cX8_tells 38 = .ok (.aload_n 0, 1) := dk_42 (dk_at dksX8_tells_1 14 rfl rfl)
theorem dX8_tells_39 : decode cX8_tells 39 = .ok (.getfield 68, 3) := dk_180 0 68 (dk_at dksX8_tells_1 15 rfl rfl)
theorem dX8_tells_42 : decode cX8_tells 42 = .ok (.iload_n 1, 1) := dk_27 (dk_at dksX8_tells_1 18 rfl rfl)
theorem dX8_tells_43 : decode cX8_tells 43 = .ok (.baload, 1) := dk_51 (dk_at dksX8_tells_1 19 rfl rfl)
theorem dX8_tells_44 : decode cX8_tells 44 = .ok (.ifCond .ne 6, 3) := dk_154 0 6 (dk_at dksX8_tells_1 20 rfl rfl)
theorem dX8_tells_47 : decode cX8_tells 47 = .ok (.bipush (-11), 2) := dk_16 245 (dk_at dksX8_tells_2 0 rfl rfl)
theorem dX8_tells_49 : decode cX8_tells 49 = .ok (.ireturn, 1) := dk_172 (dk_at dksX8_tells_2 2 rfl rfl)
theorem dX8_tells_50 : decode cX8_tells 50 = .ok (.aload_n 0, 1) := dk_42 (dk_at dksX8_tells_2 3 rfl rfl)
theorem dX8_tells_51 : decode cX8_tells 51 = .ok (.getfield 75, 3) := dk_180 0 75 (dk_at dksX8_tells_2 4 rfl rfl)
theorem dX8_tells_54 : decode cX8_tells 54 = .ok (.iload_n 1, 1) := dk_27 (dk_at dksX8_tells_2 7 rfl rfl)
theorem dX8_tells_55 : decode cX8_tells 55 = .ok (.iaload, 1) := dk_46 (dk_at dksX8_tells_2 8 rfl rfl)
theorem dX8_tells_56 : decode cX8_tells 56 = .ok (.aload_n 0, 1) := dk_42 (dk_at dksX8_tells_2 9 rfl rfl)
theorem dX8_tells_57 : decode cX8_tells 57 = .ok (.iload_n 3, 1) := dk_29 (dk_at dksX8_tells_2 10 rfl rfl)
theorem dX8_tells_58 : decode cX8_tells 58 = .ok (.invokevirtual 141, 3) := dk_182 0 141 (dk_at dksX8_tells_2 11 rfl rfl)
theorem dX8_tells_61 : decode cX8_tells 61 = .ok (.if_icmp .le 6, 3) := dk_164 0 6 (dk_at dksX8_tells_2 14 rfl rfl)
theorem dX8_tells_64 : decode cX8_tells 64 = .ok (.bipush (-2), 2) := dk_16 254 (dk_at dksX8_tells_2 17 rfl rfl)
theorem dX8_tells_66 : decode cX8_tells 66 = .ok (.ireturn, 1) := dk_172 (dk_at dksX8_tells_2 19 rfl rfl)
theorem dX8_tells_67 : decode cX8_tells 67 = .ok (.iload 4, 2) := dk_21 4 (dk_at dksX8_tells_2 20 rfl rfl)
theorem dX8_tells_69 : decode cX8_tells 69 = .ok (.ifCond .ne 11, 3) := dk_154 0 11 (dk_at dksX8_tells_3 0 rfl rfl)
theorem dX8_tells_72 : decode cX8_tells 72 = .ok (.aload_n 0, 1) := dk_42 (dk_at dksX8_tells_3 3 rfl rfl)
theorem dX8_tells_73 : decode cX8_tells 73 = .ok (.iload_n 1, 1) := dk_27 (dk_at dksX8_tells_3 4 rfl rfl)
theorem dX8_tells_74 : decode cX8_tells 74 = .ok (.iload_n 2, 1) := dk_28 (dk_at dksX8_tells_3 5 rfl rfl)
theorem dX8_tells_75 : decode cX8_tells 75 = .ok (.iload_n 3, 1) := dk_29 (dk_at dksX8_tells_3 6 rfl rfl)
theorem dX8_tells_76 : decode cX8_tells 76 = .ok (.invokevirtual 336, 3) := dk_182 1 80 (dk_at dksX8_tells_3 7 rfl rfl)
theorem dX8_tells_79 : decode cX8_tells 79 = .ok (.ireturn, 1) := dk_172 (dk_at dksX8_tells_3 10 rfl rfl)
theorem dX8_tells_80 : decode cX8_tells 80 = .ok (.iload 4, 2) := dk_21 4 (dk_at dksX8_tells_3 11 rfl rfl)
theorem dX8_tells_82 : decode cX8_tells 82 = .ok (.iconst 5, 1) := dk_8 (dk_at dksX8_tells_3 13 rfl rfl)
theorem dX8_tells_83 : decode cX8_tells 83 = .ok (.if_icmp .le 26, 3) := dk_164 0 26 (dk_at dksX8_tells_3 14 rfl rfl)
theorem dX8_tells_86 : decode cX8_tells 86 = .ok (.iload 4, 2) := dk_21 4 (dk_at dksX8_tells_3 17 rfl rfl)
theorem dX8_tells_88 : decode cX8_tells 88 = .ok (.bipush 6, 2) := dk_16 6 (dk_at dksX8_tells_3 19 rfl rfl)
theorem dX8_tells_90 : decode cX8_tells 90 = .ok (.if_icmp .ne 12, 3) := dk_160 0 12 (dk_at dksX8_tells_3 21 rfl rfl)
theorem dX8_tells_93 : decode cX8_tells 93 = .ok (.aload_n 0, 1) := dk_42 (dk_at dksX8_tells_4 0 rfl rfl)
theorem dX8_tells_94 : decode cX8_tells 94 = .ok (.iload_n 1, 1) := dk_27 (dk_at dksX8_tells_4 1 rfl rfl)
theorem dX8_tells_95 : decode cX8_tells 95 = .ok (.iload_n 3, 1) := dk_29 (dk_at dksX8_tells_4 2 rfl rfl)
theorem dX8_tells_96 : decode cX8_tells 96 = .ok (.invokevirtual 344, 3) := dk_182 1 88 (dk_at dksX8_tells_4 3 rfl rfl)
theorem dX8_tells_99 : decode cX8_tells 99 = .ok (.goto 9, 3) := dk_167 0 9 (dk_at dksX8_tells_4 6 rfl rfl)
theorem dX8_tells_102 : decode cX8_tells 102 = .ok (.aload_n 0, 1) := dk_42 (dk_at dksX8_tells_4 9 rfl rfl)
theorem dX8_tells_103 : decode cX8_tells 103 = .ok (.iload_n 1, 1) := dk_27 (dk_at dksX8_tells_4 10 rfl rfl)
theorem dX8_tells_104 : decode cX8_tells 104 = .ok (.iload_n 2, 1) := dk_28 (dk_at dksX8_tells_4 11 rfl rfl)
theorem dX8_tells_105 : decode cX8_tells 105 = .ok (.invokevirtual 347, 3) := dk_182 1 91 (dk_at dksX8_tells_4 12 rfl rfl)
theorem dX8_tells_108 : decode cX8_tells 108 = .ok (.ireturn, 1) := dk_172 (dk_at dksX8_tells_4 15 rfl rfl)
theorem dX8_tells_109 : decode cX8_tells 109 = .ok (.iload 4, 2) := dk_21 4 (dk_at dksX8_tells_4 16 rfl rfl)
theorem dX8_tells_111 : decode cX8_tells 111 = .ok (.iconst 1, 1) := dk_4 (dk_at dksX8_tells_4 18 rfl rfl)
theorem dX8_tells_112 : decode cX8_tells 112 = .ok (.if_icmp .ne 7, 3) := dk_160 0 7 (dk_at dksX8_tells_4 19 rfl rfl)
theorem dX8_tells_115 : decode cX8_tells 115 = .ok (.iconst 3, 1) := dk_6 (dk_at dksX8_tells_4 22 rfl rfl)
theorem dX8_tells_116 : decode cX8_tells 116 = .ok (.goto 24, 3) := dk_167 0 24 (dk_at dksX8_tells_5 0 rfl rfl)
theorem dX8_tells_119 : decode cX8_tells 119 = .ok (.iload 4, 2) := dk_21 4 (dk_at dksX8_tells_5 3 rfl rfl)
theorem dX8_tells_121 : decode cX8_tells 121 = .ok (.iconst 2, 1) := dk_5 (dk_at dksX8_tells_5 5 rfl rfl)
theorem dX8_tells_122 : decode cX8_tells 122 = .ok (.if_icmp .ne 7, 3) := dk_160 0 7 (dk_at dksX8_tells_5 6 rfl rfl)
theorem dX8_tells_125 : decode cX8_tells 125 = .ok (.iconst 1, 1) := dk_4 (dk_at dksX8_tells_5 9 rfl rfl)
theorem dX8_tells_126 : decode cX8_tells 126 = .ok (.goto 14, 3) := dk_167 0 14 (dk_at dksX8_tells_5 10 rfl rfl)
theorem dX8_tells_129 : decode cX8_tells 129 = .ok (.iload 4, 2) := dk_21 4 (dk_at dksX8_tells_5 13 rfl rfl)
theorem dX8_tells_131 : decode cX8_tells 131 = .ok (.iconst 5, 1) := dk_8 (dk_at dksX8_tells_5 15 rfl rfl)
theorem dX8_tells_132 : decode cX8_tells 132 = .ok (.if_icmp .ne 7, 3) := dk_160 0 7 (dk_at dksX8_tells_5 16 rfl rfl)
theorem dX8_tells_135 : decode cX8_tells 135 = .ok (.iconst 4, 1) := dk_7 (dk_at dksX8_tells_5 19 rfl rfl)
theorem dX8_tells_136 : decode cX8_tells 136 = .ok (.goto 4, 3) := dk_167 0 4 (dk_at dksX8_tells_5 20 rfl rfl)
theorem dX8_tells_139 : decode cX8_tells 139 = .ok (.iconst 2, 1) := dk_5 (dk_at dksX8_tells_5 23 rfl rfl)
theorem dX8_tells_140 : decode cX8_tells 140 = .ok (.istore 5, 2) := dk_54 5 (dk_at dksX8_tells_6 0 rfl rfl)
theorem dX8_tells_142 : decode cX8_tells 142 = .ok (.iload 5, 2) := dk_21 5 (dk_at dksX8_tells_6 2 rfl rfl)
theorem dX8_tells_144 : decode cX8_tells 144 = .ok (.iconst 4, 1) := dk_7 (dk_at dksX8_tells_6 4 rfl rfl)
theorem dX8_tells_145 : decode cX8_tells 145 = .ok (.if_icmp .ne 10, 3) := dk_160 0 10 (dk_at dksX8_tells_6 5 rfl rfl)
theorem dX8_tells_148 : decode cX8_tells 148 = .ok (.aload_n 0, 1) := dk_42 (dk_at dksX8_tells_6 8 rfl rfl)
theorem dX8_tells_149 : decode cX8_tells 149 = .ok (.getfield 129, 3) := dk_180 0 129 (dk_at dksX8_tells_6 9 rfl rfl)
theorem dX8_tells_152 : decode cX8_tells 152 = .ok (.goto 10, 3) := dk_167 0 10 (dk_at dksX8_tells_6 12 rfl rfl)
theorem dX8_tells_155 : decode cX8_tells 155 = .ok (.aload_n 0, 1) := dk_42 (dk_at dksX8_tells_6 15 rfl rfl)
theorem dX8_tells_156 : decode cX8_tells 156 = .ok (.iload_n 2, 1) := dk_28 (dk_at dksX8_tells_6 16 rfl rfl)
theorem dX8_tells_157 : decode cX8_tells 157 = .ok (.iload 5, 2) := dk_21 5 (dk_at dksX8_tells_6 17 rfl rfl)
theorem dX8_tells_159 : decode cX8_tells 159 = .ok (.invokevirtual 118, 3) := dk_182 0 118 (dk_at dksX8_tells_6 19 rfl rfl)
theorem dX8_tells_162 : decode cX8_tells 162 = .ok (.istore 6, 2) := dk_54 6 (dk_at dksX8_tells_6 22 rfl rfl)
theorem dX8_tells_164 : decode cX8_tells 164 = .ok (.iload 5, 2) := dk_21 5 (dk_at dksX8_tells_7 0 rfl rfl)
theorem dX8_tells_166 : decode cX8_tells 166 = .ok (.iconst 4, 1) := dk_7 (dk_at dksX8_tells_7 2 rfl rfl)
theorem dX8_tells_167 : decode cX8_tells 167 = .ok (.if_icmp .ne 12, 3) := dk_160 0 12 (dk_at dksX8_tells_7 3 rfl rfl)
theorem dX8_tells_170 : decode cX8_tells 170 = .ok (.aload_n 0, 1) := dk_42 (dk_at dksX8_tells_7 6 rfl rfl)
theorem dX8_tells_171 : decode cX8_tells 171 = .ok (.getfield 85, 3) := dk_180 0 85 (dk_at dksX8_tells_7 7 rfl rfl)
theorem dX8_tells_174 : decode cX8_tells 174 = .ok (.iconst 1, 1) := dk_4 (dk_at dksX8_tells_7 10 rfl rfl)
theorem dX8_tells_175 : decode cX8_tells 175 = .ok (.isub, 1) := dk_100 (dk_at dksX8_tells_7 11 rfl rfl)
theorem dX8_tells_176 : decode cX8_tells 176 = .ok (.goto 26, 3) := dk_167 0 26 (dk_at dksX8_tells_7 12 rfl rfl)
theorem dX8_tells_179 : decode cX8_tells 179 = .ok (.iload 5, 2) := dk_21 5 (dk_at dksX8_tells_7 15 rfl rfl)
theorem dX8_tells_181 : decode cX8_tells 181 = .ok (.iconst 3, 1) := dk_6 (dk_at dksX8_tells_7 17 rfl rfl)
theorem dX8_tells_182 : decode cX8_tells 182 = .ok (.if_icmp .ne 7, 3) := dk_160 0 7 (dk_at dksX8_tells_7 18 rfl rfl)
theorem dX8_tells_185 : decode cX8_tells 185 = .ok (.iconst 5, 1) := dk_8 (dk_at dksX8_tells_7 21 rfl rfl)
theorem dX8_tells_186 : decode cX8_tells 186 = .ok (.goto 16, 3) := dk_167 0 16 (dk_at dksX8_tells_8 0 rfl rfl)
theorem dX8_tells_189 : decode cX8_tells 189 = .ok (.iload 5, 2) := dk_21 5 (dk_at dksX8_tells_8 3 rfl rfl)
theorem dX8_tells_191 : decode cX8_tells 191 = .ok (.iconst 1, 1) := dk_4 (dk_at dksX8_tells_8 5 rfl rfl)
theorem dX8_tells_192 : decode cX8_tells 192 = .ok (.if_icmp .ne 8, 3) := dk_160 0 8 (dk_at dksX8_tells_8 6 rfl rfl)
theorem dX8_tells_195 : decode cX8_tells 195 = .ok (.bipush 9, 2) := dk_16 9 (dk_at dksX8_tells_8 9 rfl rfl)
theorem dX8_tells_197 : decode cX8_tells 197 = .ok (.goto 5, 3) := dk_167 0 5 (dk_at dksX8_tells_8 11 rfl rfl)
theorem dX8_tells_200 : decode cX8_tells 200 = .ok (.bipush 99, 2) := dk_16 99 (dk_at dksX8_tells_8 14 rfl rfl)
theorem dX8_tells_202 : decode cX8_tells 202 = .ok (.istore 7, 2) := dk_54 7 (dk_at dksX8_tells_8 16 rfl rfl)
theorem dX8_tells_204 : decode cX8_tells 204 = .ok (.iconst 0, 1) := dk_3 (dk_at dksX8_tells_8 18 rfl rfl)
theorem dX8_tells_205 : decode cX8_tells 205 = .ok (.istore 8, 2) := dk_54 8 (dk_at dksX8_tells_8 19 rfl rfl)
theorem dX8_tells_207 : decode cX8_tells 207 = .ok (.iconst 0, 1) := dk_3 (dk_at dksX8_tells_8 21 rfl rfl)
theorem dX8_tells_208 : decode cX8_tells 208 = .ok (.istore 9, 2) := dk_54 9 (dk_at dksX8_tells_8 22 rfl rfl)
theorem dX8_tells_210 : decode cX8_tells 210 = .ok (.iconst (-1), 1) := dk_2 (dk_at dksX8_tells_9 0 rfl rfl)
theorem dX8_tells_211 : decode cX8_tells 211 = .ok (.istore 10, 2) := dk_54 10 (dk_at dksX8_tells_9 1 rfl rfl)
theorem dX8_tells_213 : decode cX8_tells 213 = .ok (.iload 7, 2) := dk_21 7 (dk_at dksX8_tells_9 3 rfl rfl)
theorem dX8_tells_215 : decode cX8_tells 215 = .ok (.istore 11, 2) := dk_54 11 (dk_at dksX8_tells_9 5 rfl rfl)
theorem dX8_tells_217 : decode cX8_tells 217 = .ok (.iload 11, 2) := dk_21 11 (dk_at dksX8_tells_9 7 rfl rfl)
theorem dX8_tells_219 : decode cX8_tells 219 = .ok (.ifCond .lt 56, 3) := dk_155 0 56 (dk_at dksX8_tells_9 9 rfl rfl)
theorem dX8_tells_222 : decode cX8_tells 222 = .ok (.aload_n 0, 1) := dk_42 (dk_at dksX8_tells_9 12 rfl rfl)
theorem dX8_tells_223 : decode cX8_tells 223 = .ok (.iload 5, 2) := dk_21 5 (dk_at dksX8_tells_9 13 rfl rfl)
theorem dX8_tells_225 : decode cX8_tells 225 = .ok (.iload_n 2, 1) := dk_28 (dk_at dksX8_tells_9 15 rfl rfl)
theorem dX8_tells_226 : decode cX8_tells 226 = .ok (.iload 11, 2) := dk_21 11 (dk_at dksX8_tells_9 16 rfl rfl)
theorem dX8_tells_228 : decode cX8_tells 228 = .ok (.invokevirtual 122, 3) := dk_182 0 122 (dk_at dksX8_tells_9 18 rfl rfl)
theorem dX8_tells_231 : decode cX8_tells 231 = .ok (.aload_n 0, 1) := dk_42 (dk_at dksX8_tells_9 21 rfl rfl)
theorem dX8_tells_232 : decode cX8_tells 232 = .ok (.iload_n 1, 1) := dk_27 (dk_at dksX8_tells_9 22 rfl rfl)
theorem dX8_tells_233 : decode cX8_tells 233 = .ok (.iload_n 2, 1) := dk_28 (dk_at dksX8_tells_9 23 rfl rfl)
theorem dX8_tells_234 : decode cX8_tells 234 = .ok (.iload_n 3, 1) := dk_29 (dk_at dksX8_tells_10 0 rfl rfl)
theorem dX8_tells_235 : decode cX8_tells 235 = .ok (.invokevirtual 336, 3) := dk_182 1 80 (dk_at dksX8_tells_10 1 rfl rfl)
theorem dX8_tells_238 : decode cX8_tells 238 = .ok (.iconst (-1), 1) := dk_2 (dk_at dksX8_tells_10 4 rfl rfl)
theorem dX8_tells_239 : decode cX8_tells 239 = .ok (.if_icmp .ne 30, 3) := dk_160 0 30 (dk_at dksX8_tells_10 5 rfl rfl)
theorem dX8_tells_242 : decode cX8_tells 242 = .ok (.iload 8, 2) := dk_21 8 (dk_at dksX8_tells_10 8 rfl rfl)
theorem dX8_tells_244 : decode cX8_tells 244 = .ok (.iload 11, 2) := dk_21 11 (dk_at dksX8_tells_10 10 rfl rfl)
theorem dX8_tells_246 : decode cX8_tells 246 = .ok (.bipush 10, 2) := dk_16 10 (dk_at dksX8_tells_10 12 rfl rfl)
theorem dX8_tells_248 : decode cX8_tells 248 = .ok (.if_icmp .ge 10, 3) := dk_162 0 10 (dk_at dksX8_tells_10 14 rfl rfl)
theorem dX8_tells_251 : decode cX8_tells 251 = .ok (.iconst 1, 1) := dk_4 (dk_at dksX8_tells_10 17 rfl rfl)
theorem dX8_tells_252 : decode cX8_tells 252 = .ok (.iload 11, 2) := dk_21 11 (dk_at dksX8_tells_10 18 rfl rfl)
theorem dX8_tells_254 : decode cX8_tells 254 = .ok (.ishl, 1) := dk_120 (dk_at dksX8_tells_10 20 rfl rfl)
theorem dX8_tells_255 : decode cX8_tells 255 = .ok (.goto 4, 3) := dk_167 0 4 (dk_at dksX8_tells_10 21 rfl rfl)
theorem dX8_tells_258 : decode cX8_tells 258 = .ok (.iconst 0, 1) := dk_3 (dk_at dksX8_tells_11 0 rfl rfl)
theorem dX8_tells_259 : decode cX8_tells 259 = .ok (.ior, 1) := dk_128 (dk_at dksX8_tells_11 1 rfl rfl)
theorem dX8_tells_260 : decode cX8_tells 260 = .ok (.istore 8, 2) := dk_54 8 (dk_at dksX8_tells_11 2 rfl rfl)
theorem dX8_tells_262 : decode cX8_tells 262 = .ok (.iinc 9 1, 3) := dk_132 9 1 (dk_at dksX8_tells_11 4 rfl rfl)
theorem dX8_tells_265 : decode cX8_tells 265 = .ok (.iload 11, 2) := dk_21 11 (dk_at dksX8_tells_11 7 rfl rfl)
theorem dX8_tells_267 : decode cX8_tells 267 = .ok (.istore 10, 2) := dk_54 10 (dk_at dksX8_tells_11 9 rfl rfl)
theorem dX8_tells_269 : decode cX8_tells 269 = .ok (.iinc 11 (-1), 3) := dk_132 11 255 (dk_at dksX8_tells_11 11 rfl rfl)
theorem dX8_tells_272 : decode cX8_tells 272 = .ok (.goto (-55), 3) := dk_167 255 201 (dk_at dksX8_tells_11 14 rfl rfl)
theorem dX8_tells_275 : decode cX8_tells 275 = .ok (.aload_n 0, 1) := dk_42 (dk_at dksX8_tells_11 17 rfl rfl)
theorem dX8_tells_276 : decode cX8_tells 276 = .ok (.iload 5, 2) := dk_21 5 (dk_at dksX8_tells_11 18 rfl rfl)
theorem dX8_tells_278 : decode cX8_tells 278 = .ok (.iload_n 2, 1) := dk_28 (dk_at dksX8_tells_11 20 rfl rfl)
theorem dX8_tells_279 : decode cX8_tells 279 = .ok (.iload 6, 2) := dk_21 6 (dk_at dksX8_tells_11 21 rfl rfl)
theorem dX8_tells_281 : decode cX8_tells 281 = .ok (.invokevirtual 122, 3) := dk_182 0 122 (dk_at dksX8_tells_12 0 rfl rfl)
theorem dX8_tells_284 : decode cX8_tells 284 = .ok (.iload 4, 2) := dk_21 4 (dk_at dksX8_tells_12 3 rfl rfl)
theorem dX8_tells_286 : decode cX8_tells 286 = .ok (.iconst 3, 1) := dk_6 (dk_at dksX8_tells_12 5 rfl rfl)
theorem dX8_tells_287 : decode cX8_tells 287 = .ok (.if_icmp .ne 8, 3) := dk_160 0 8 (dk_at dksX8_tells_12 6 rfl rfl)
theorem dX8_tells_290 : decode cX8_tells 290 = .ok (.iload 9, 2) := dk_21 9 (dk_at dksX8_tells_12 9 rfl rfl)
theorem dX8_tells_292 : decode cX8_tells 292 = .ok (.goto 16, 3) := dk_167 0 16 (dk_at dksX8_tells_12 11 rfl rfl)
theorem dX8_tells_295 : decode cX8_tells 295 = .ok (.iload 4, 2) := dk_21 4 (dk_at dksX8_tells_12 14 rfl rfl)
theorem dX8_tells_297 : decode cX8_tells 297 = .ok (.iconst 4, 1) := dk_7 (dk_at dksX8_tells_12 16 rfl rfl)
theorem dX8_tells_298 : decode cX8_tells 298 = .ok (.if_icmp .ne 8, 3) := dk_160 0 8 (dk_at dksX8_tells_12 17 rfl rfl)
theorem dX8_tells_301 : decode cX8_tells 301 = .ok (.iload 10, 2) := dk_21 10 (dk_at dksX8_tells_12 20 rfl rfl)
theorem dX8_tells_303 : decode cX8_tells 303 = .ok (.goto 5, 3) := dk_167 0 5 (dk_at dksX8_tells_13 0 rfl rfl)
theorem dX8_tells_306 : decode cX8_tells 306 = .ok (.iload 8, 2) := dk_21 8 (dk_at dksX8_tells_13 3 rfl rfl)
theorem dX8_tells_308 : decode cX8_tells 308 = .ok (.ireturn, 1) := dk_172 (dk_at dksX8_tells_13 5 rfl rfl)
abbrev cX8_isSheet : ByteArray := prog_16_method_78_code
def yX8_isSheet : MethodName := ⟨RX8, "isSheet", "(I)Z"⟩
def dkwX8_isSheet_0 : List UInt8 := [26, 133, 9, 20, 0, 95, 184, 0, 91, 172]
abbrev dktX8_isSheet_0 : List UInt8 := dkwX8_isSheet_0 ++ []
theorem dksX8_isSheet_0 : cX8_isSheet.data.toList.drop 0 = dktX8_isSheet_0 := by decide +kernel
theorem dX8_isSheet_0 : decode cX8_isSheet 0 = .ok (.iload_n 0, 1) := dk_26 (dk_at dksX8_isSheet_0 0 rfl rfl)
theorem dX8_isSheet_1 : decode cX8_isSheet 1 = .ok (.i2l, 1) := dk_133 (dk_at dksX8_isSheet_0 1 rfl rfl)
theorem dX8_isSheet_2 : decode cX8_isSheet 2 = .ok (.lconst 0, 1) := dk_9 (dk_at dksX8_isSheet_0 2 rfl rfl)
theorem dX8_isSheet_3 : decode cX8_isSheet 3 = .ok (.ldc2_w 95, 3) := dk_20 0 95 (dk_at dksX8_isSheet_0 3 rfl rfl)
theorem dX8_isSheet_6 : decode cX8_isSheet 6 = .ok (.invokestatic 91, 3) := dk_184 0 91 (dk_at dksX8_isSheet_0 6 rfl rfl)
theorem dX8_isSheet_9 : decode cX8_isSheet 9 = .ok (.ireturn, 1) := dk_172 (dk_at dksX8_isSheet_0 9 rfl rfl)
abbrev cX8_firstOther : ByteArray := prog_16_method_67_code
def yX8_firstOther : MethodName := ⟨RX8, "firstOther", "(III)I"⟩
def dkwX8_firstOther_2 : List UInt8 := [159, 0, 6, 21, 4, 172, 132, 4, 1, 167, 255, 217, 2, 172]
abbrev dktX8_firstOther_2 : List UInt8 := dkwX8_firstOther_2 ++ []
def dkwX8_firstOther_1 : List UInt8 := [27, 46, 162, 0, 34, 42, 180, 0, 41, 21, 4, 46, 42, 180, 0, 78, 16, 40, 27, 104, 21, 4, 96, 46]
abbrev dktX8_firstOther_1 : List UInt8 := dkwX8_firstOther_1 ++ dktX8_firstOther_2
def dkwX8_firstOther_0 : List UInt8 := [42, 182, 1, 41, 42, 28, 29, 182, 1, 29, 87, 42, 182, 1, 44, 3, 54, 4, 21, 4, 42, 180, 0, 75]
abbrev dktX8_firstOther_0 : List UInt8 := dkwX8_firstOther_0 ++ dktX8_firstOther_1
theorem dksX8_firstOther_0 : cX8_firstOther.data.toList.drop 0 = dktX8_firstOther_0 := by decide +kernel
theorem dksX8_firstOther_1 : cX8_firstOther.data.toList.drop 24 = dktX8_firstOther_1 := dk_seg dksX8_firstOther_0 24 rfl rfl
theorem dksX8_firstOther_2 : cX8_firstOther.data.toList.drop 48 = dktX8_firstOther_2 := dk_seg dksX8_firstOther_1 24 rfl rfl
theorem dX8_firstOther_0 : decode cX8_firstOther 0 = .ok (.aload_n 0, 1) := dk_42 (dk_at dksX8_firstOther_0 0 rfl rfl)
theorem dX8_firstOther_1 : decode cX8_firstOther 1 = .ok (.invokevirtual 297, 3) := dk_182 1 41 (dk_at dksX8_firstOther_0 1 rfl rfl)
theorem dX8_firstOther_4 : decode cX8_firstOther 4 = .ok (.aload_n 0, 1) := dk_42 (dk_at dksX8_firstOther_0 4 rfl rfl)
theorem dX8_firstOther_5 : decode cX8_firstOther 5 = .ok (.iload_n 2, 1) := dk_28 (dk_at dksX8_firstOther_0 5 rfl rfl)
theorem dX8_firstOther_6 : decode cX8_firstOther 6 = .ok (.iload_n 3, 1) := dk_29 (dk_at dksX8_firstOther_0 6 rfl rfl)
theorem dX8_firstOther_7 : decode cX8_firstOther 7 = .ok (.invokevirtual 285, 3) := dk_182 1 29 (dk_at dksX8_firstOther_0 7 rfl rfl)
theorem dX8_firstOther_10 : decode cX8_firstOther 10 = .ok (.pop, 1) := dk_87 (dk_at dksX8_firstOther_0 10 rfl rfl)
theorem dX8_firstOther_11 : decode cX8_firstOther 11 = .ok (.aload_n 0, 1) := dk_42 (dk_at dksX8_firstOther_0 11 rfl rfl)
theorem dX8_firstOther_12 : decode cX8_firstOther 12 = .ok (.invokevirtual 300, 3) := dk_182 1 44 (dk_at dksX8_firstOther_0 12 rfl rfl)
theorem dX8_firstOther_15 : decode cX8_firstOther 15 = .ok (.iconst 0, 1) := dk_3 (dk_at dksX8_firstOther_0 15 rfl rfl)
theorem dX8_firstOther_16 : decode cX8_firstOther 16 = .ok (.istore 4, 2) := dk_54 4 (dk_at dksX8_firstOther_0 16 rfl rfl)
theorem dX8_firstOther_18 : decode cX8_firstOther 18 = .ok (.iload 4, 2) := dk_21 4 (dk_at dksX8_firstOther_0 18 rfl rfl)
theorem dX8_firstOther_20 : decode cX8_firstOther 20 = .ok (.aload_n 0, 1) := dk_42 (dk_at dksX8_firstOther_0 20 rfl rfl)
theorem dX8_firstOther_21 : decode cX8_firstOther 21 = .ok (.getfield 75, 3) := dk_180 0 75 (dk_at dksX8_firstOther_0 21 rfl rfl)
theorem dX8_firstOther_24 : decode cX8_firstOther 24 = .ok (.iload_n 1, 1) := dk_27 (dk_at dksX8_firstOther_1 0 rfl rfl)
theorem dX8_firstOther_25 : decode cX8_firstOther 25 = .ok (.iaload, 1) := dk_46 (dk_at dksX8_firstOther_1 1 rfl rfl)
theorem dX8_firstOther_26 : decode cX8_firstOther 26 = .ok (.if_icmp .ge 34, 3) := dk_162 0 34 (dk_at dksX8_firstOther_1 2 rfl rfl)
theorem dX8_firstOther_29 : decode cX8_firstOther 29 = .ok (.aload_n 0, 1) := dk_42 (dk_at dksX8_firstOther_1 5 rfl rfl)
theorem dX8_firstOther_30 : decode cX8_firstOther 30 = .ok (.getfield 41, 3) := dk_180 0 41 (dk_at dksX8_firstOther_1 6 rfl rfl)
theorem dX8_firstOther_33 : decode cX8_firstOther 33 = .ok (.iload 4, 2) := dk_21 4 (dk_at dksX8_firstOther_1 9 rfl rfl)
theorem dX8_firstOther_35 : decode cX8_firstOther 35 = .ok (.iaload, 1) := dk_46 (dk_at dksX8_firstOther_1 11 rfl rfl)
theorem dX8_firstOther_36 : decode cX8_firstOther 36 = .ok (.aload_n 0, 1) := dk_42 (dk_at dksX8_firstOther_1 12 rfl rfl)
theorem dX8_firstOther_37 : decode cX8_firstOther 37 = .ok (.getfield 78, 3) := dk_180 0 78 (dk_at dksX8_firstOther_1 13 rfl rfl)
theorem dX8_firstOther_40 : decode cX8_firstOther 40 = .ok (.bipush 40, 2) := dk_16 40 (dk_at dksX8_firstOther_1 16 rfl rfl)
theorem dX8_firstOther_42 : decode cX8_firstOther 42 = .ok (.iload_n 1, 1) := dk_27 (dk_at dksX8_firstOther_1 18 rfl rfl)
theorem dX8_firstOther_43 : decode cX8_firstOther 43 = .ok (.imul, 1) := dk_104 (dk_at dksX8_firstOther_1 19 rfl rfl)
theorem dX8_firstOther_44 : decode cX8_firstOther 44 = .ok (.iload 4, 2) := dk_21 4 (dk_at dksX8_firstOther_1 20 rfl rfl)
theorem dX8_firstOther_46 : decode cX8_firstOther 46 = .ok (.iadd, 1) := dk_96 (dk_at dksX8_firstOther_1 22 rfl rfl)
theorem dX8_firstOther_47 : decode cX8_firstOther 47 = .ok (.iaload, 1) := dk_46 (dk_at dksX8_firstOther_1 23 rfl rfl)
theorem dX8_firstOther_48 : decode cX8_firstOther 48 = .ok (.if_icmp .eq 6, 3) := dk_159 0 6 (dk_at dksX8_firstOther_2 0 rfl rfl)
theorem dX8_firstOther_51 : decode cX8_firstOther 51 = .ok (.iload 4, 2) := dk_21 4 (dk_at dksX8_firstOther_2 3 rfl rfl)
theorem dX8_firstOther_53 : decode cX8_firstOther 53 = .ok (.ireturn, 1) := dk_172 (dk_at dksX8_firstOther_2 5 rfl rfl)
theorem dX8_firstOther_54 : decode cX8_firstOther 54 = .ok (.iinc 4 1, 3) := dk_132 4 1 (dk_at dksX8_firstOther_2 6 rfl rfl)
theorem dX8_firstOther_57 : decode cX8_firstOther 57 = .ok (.goto (-39), 3) := dk_167 255 217 (dk_at dksX8_firstOther_2 9 rfl rfl)
theorem dX8_firstOther_60 : decode cX8_firstOther 60 = .ok (.iconst (-1), 1) := dk_2 (dk_at dksX8_firstOther_2 12 rfl rfl)
theorem dX8_firstOther_61 : decode cX8_firstOther 61 = .ok (.ireturn, 1) := dk_172 (dk_at dksX8_firstOther_2 13 rfl rfl)
abbrev cX8_likeSet : ByteArray := prog_16_method_68_code
def yX8_likeSet : MethodName := ⟨RX8, "likeSet", "(II)I"⟩
def dkwX8_likeSet_1 : List UInt8 := [160, 0, 7, 4, 167, 0, 4, 3, 21, 4, 120, 128, 62, 132, 4, 1, 167, 255, 221, 29, 172]
abbrev dktX8_likeSet_1 : List UInt8 := dkwX8_likeSet_1 ++ []
def dkwX8_likeSet_0 : List UInt8 := [3, 62, 3, 54, 4, 21, 4, 42, 180, 0, 88, 162, 0, 32, 29, 42, 27, 21, 4, 28, 182, 1, 80, 2]
abbrev dktX8_likeSet_0 : List UInt8 := dkwX8_likeSet_0 ++ dktX8_likeSet_1
theorem dksX8_likeSet_0 : cX8_likeSet.data.toList.drop 0 = dktX8_likeSet_0 := by decide +kernel
theorem dksX8_likeSet_1 : cX8_likeSet.data.toList.drop 24 = dktX8_likeSet_1 := dk_seg dksX8_likeSet_0 24 rfl rfl
theorem dX8_likeSet_0 : decode cX8_likeSet 0 = .ok (.iconst 0, 1) := dk_3 (dk_at dksX8_likeSet_0 0 rfl rfl)
theorem dX8_likeSet_1 : decode cX8_likeSet 1 = .ok (.istore_n 3, 1) := dk_62 (dk_at dksX8_likeSet_0 1 rfl rfl)
theorem dX8_likeSet_2 : decode cX8_likeSet 2 = .ok (.iconst 0, 1) := dk_3 (dk_at dksX8_likeSet_0 2 rfl rfl)
theorem dX8_likeSet_3 : decode cX8_likeSet 3 = .ok (.istore 4, 2) := dk_54 4 (dk_at dksX8_likeSet_0 3 rfl rfl)
theorem dX8_likeSet_5 : decode cX8_likeSet 5 = .ok (.iload 4, 2) := dk_21 4 (dk_at dksX8_likeSet_0 5 rfl rfl)
theorem dX8_likeSet_7 : decode cX8_likeSet 7 = .ok (.aload_n 0, 1) := dk_42 (dk_at dksX8_likeSet_0 7 rfl rfl)
theorem dX8_likeSet_8 : decode cX8_likeSet 8 = .ok (.getfield 88, 3) := dk_180 0 88 (dk_at dksX8_likeSet_0 8 rfl rfl)
theorem dX8_likeSet_11 : decode cX8_likeSet 11 = .ok (.if_icmp .ge 32, 3) := dk_162 0 32 (dk_at dksX8_likeSet_0 11 rfl rfl)
theorem dX8_likeSet_14 : decode cX8_likeSet 14 = .ok (.iload_n 3, 1) := dk_29 (dk_at dksX8_likeSet_0 14 rfl rfl)
theorem dX8_likeSet_15 : decode cX8_likeSet 15 = .ok (.aload_n 0, 1) := dk_42 (dk_at dksX8_likeSet_0 15 rfl rfl)
theorem dX8_likeSet_16 : decode cX8_likeSet 16 = .ok (.iload_n 1, 1) := dk_27 (dk_at dksX8_likeSet_0 16 rfl rfl)
theorem dX8_likeSet_17 : decode cX8_likeSet 17 = .ok (.iload 4, 2) := dk_21 4 (dk_at dksX8_likeSet_0 17 rfl rfl)
theorem dX8_likeSet_19 : decode cX8_likeSet 19 = .ok (.iload_n 2, 1) := dk_28 (dk_at dksX8_likeSet_0 19 rfl rfl)
theorem dX8_likeSet_20 : decode cX8_likeSet 20 = .ok (.invokevirtual 336, 3) := dk_182 1 80 (dk_at dksX8_likeSet_0 20 rfl rfl)
theorem dX8_likeSet_23 : decode cX8_likeSet 23 = .ok (.iconst (-1), 1) := dk_2 (dk_at dksX8_likeSet_0 23 rfl rfl)
theorem dX8_likeSet_24 : decode cX8_likeSet 24 = .ok (.if_icmp .ne 7, 3) := dk_160 0 7 (dk_at dksX8_likeSet_1 0 rfl rfl)
theorem dX8_likeSet_27 : decode cX8_likeSet 27 = .ok (.iconst 1, 1) := dk_4 (dk_at dksX8_likeSet_1 3 rfl rfl)
theorem dX8_likeSet_28 : decode cX8_likeSet 28 = .ok (.goto 4, 3) := dk_167 0 4 (dk_at dksX8_likeSet_1 4 rfl rfl)
theorem dX8_likeSet_31 : decode cX8_likeSet 31 = .ok (.iconst 0, 1) := dk_3 (dk_at dksX8_likeSet_1 7 rfl rfl)
theorem dX8_likeSet_32 : decode cX8_likeSet 32 = .ok (.iload 4, 2) := dk_21 4 (dk_at dksX8_likeSet_1 8 rfl rfl)
theorem dX8_likeSet_34 : decode cX8_likeSet 34 = .ok (.ishl, 1) := dk_120 (dk_at dksX8_likeSet_1 10 rfl rfl)
theorem dX8_likeSet_35 : decode cX8_likeSet 35 = .ok (.ior, 1) := dk_128 (dk_at dksX8_likeSet_1 11 rfl rfl)
theorem dX8_likeSet_36 : decode cX8_likeSet 36 = .ok (.istore_n 3, 1) := dk_62 (dk_at dksX8_likeSet_1 12 rfl rfl)
theorem dX8_likeSet_37 : decode cX8_likeSet 37 = .ok (.iinc 4 1, 3) := dk_132 4 1 (dk_at dksX8_likeSet_1 13 rfl rfl)
theorem dX8_likeSet_40 : decode cX8_likeSet 40 = .ok (.goto (-35), 3) := dk_167 255 221 (dk_at dksX8_likeSet_1 16 rfl rfl)
theorem dX8_likeSet_43 : decode cX8_likeSet 43 = .ok (.iload_n 3, 1) := dk_29 (dk_at dksX8_likeSet_1 19 rfl rfl)
theorem dX8_likeSet_44 : decode cX8_likeSet 44 = .ok (.ireturn, 1) := dk_172 (dk_at dksX8_likeSet_1 20 rfl rfl)
abbrev cX8_rowSet : ByteArray := prog_16_method_69_code
def yX8_rowSet : MethodName := ⟨RX8, "rowSet", "(II)I"⟩
def dkwX8_rowSet_2 : List UInt8 := [62, 132, 4, 1, 167, 255, 209, 29, 172]
abbrev dktX8_rowSet_2 : List UInt8 := dkwX8_rowSet_2 ++ []
def dkwX8_rowSet_1 : List UInt8 := [161, 0, 19, 42, 27, 28, 21, 4, 182, 1, 80, 2, 160, 0, 7, 4, 167, 0, 4, 3, 21, 4, 120, 128]
abbrev dktX8_rowSet_1 : List UInt8 := dkwX8_rowSet_1 ++ dktX8_rowSet_2
def dkwX8_rowSet_0 : List UInt8 := [3, 62, 3, 54, 4, 21, 4, 7, 162, 0, 47, 29, 42, 21, 4, 182, 0, 141, 42, 180, 0, 75, 27, 46]
abbrev dktX8_rowSet_0 : List UInt8 := dkwX8_rowSet_0 ++ dktX8_rowSet_1
theorem dksX8_rowSet_0 : cX8_rowSet.data.toList.drop 0 = dktX8_rowSet_0 := by decide +kernel
theorem dksX8_rowSet_1 : cX8_rowSet.data.toList.drop 24 = dktX8_rowSet_1 := dk_seg dksX8_rowSet_0 24 rfl rfl
theorem dksX8_rowSet_2 : cX8_rowSet.data.toList.drop 48 = dktX8_rowSet_2 := dk_seg dksX8_rowSet_1 24 rfl rfl
theorem dX8_rowSet_0 : decode cX8_rowSet 0 = .ok (.iconst 0, 1) := dk_3 (dk_at dksX8_rowSet_0 0 rfl rfl)
theorem dX8_rowSet_1 : decode cX8_rowSet 1 = .ok (.istore_n 3, 1) := dk_62 (dk_at dksX8_rowSet_0 1 rfl rfl)
theorem dX8_rowSet_2 : decode cX8_rowSet 2 = .ok (.iconst 0, 1) := dk_3 (dk_at dksX8_rowSet_0 2 rfl rfl)
theorem dX8_rowSet_3 : decode cX8_rowSet 3 = .ok (.istore 4, 2) := dk_54 4 (dk_at dksX8_rowSet_0 3 rfl rfl)
theorem dX8_rowSet_5 : decode cX8_rowSet 5 = .ok (.iload 4, 2) := dk_21 4 (dk_at dksX8_rowSet_0 5 rfl rfl)
theorem dX8_rowSet_7 : decode cX8_rowSet 7 = .ok (.iconst 4, 1) := dk_7 (dk_at dksX8_rowSet_0 7 rfl rfl)
theorem dX8_rowSet_8 : decode cX8_rowSet 8 = .ok (.if_icmp .ge 47, 3) := dk_162 0 47 (dk_at dksX8_rowSet_0 8 rfl rfl)
theorem dX8_rowSet_11 : decode cX8_rowSet 11 = .ok (.iload_n 3, 1) := dk_29 (dk_at dksX8_rowSet_0 11 rfl rfl)
theorem dX8_rowSet_12 : decode cX8_rowSet 12 = .ok (.aload_n 0, 1) := dk_42 (dk_at dksX8_rowSet_0 12 rfl rfl)
theorem dX8_rowSet_13 : decode cX8_rowSet 13 = .ok (.iload 4, 2) := dk_21 4 (dk_at dksX8_rowSet_0 13 rfl rfl)
theorem dX8_rowSet_15 : decode cX8_rowSet 15 = .ok (.invokevirtual 141, 3) := dk_182 0 141 (dk_at dksX8_rowSet_0 15 rfl rfl)
theorem dX8_rowSet_18 : decode cX8_rowSet 18 = .ok (.aload_n 0, 1) := dk_42 (dk_at dksX8_rowSet_0 18 rfl rfl)
theorem dX8_rowSet_19 : decode cX8_rowSet 19 = .ok (.getfield 75, 3) := dk_180 0 75 (dk_at dksX8_rowSet_0 19 rfl rfl)
theorem dX8_rowSet_22 : decode cX8_rowSet 22 = .ok (.iload_n 1, 1) := dk_27 (dk_at dksX8_rowSet_0 22 rfl rfl)
theorem dX8_rowSet_23 : decode cX8_rowSet 23 = .ok (.iaload, 1) := dk_46 (dk_at dksX8_rowSet_0 23 rfl rfl)
theorem dX8_rowSet_24 : decode cX8_rowSet 24 = .ok (.if_icmp .lt 19, 3) := dk_161 0 19 (dk_at dksX8_rowSet_1 0 rfl rfl)
theorem dX8_rowSet_27 : decode cX8_rowSet 27 = .ok (.aload_n 0, 1) := dk_42 (dk_at dksX8_rowSet_1 3 rfl rfl)
theorem dX8_rowSet_28 : decode cX8_rowSet 28 = .ok (.iload_n 1, 1) := dk_27 (dk_at dksX8_rowSet_1 4 rfl rfl)
theorem dX8_rowSet_29 : decode cX8_rowSet 29 = .ok (.iload_n 2, 1) := dk_28 (dk_at dksX8_rowSet_1 5 rfl rfl)
theorem dX8_rowSet_30 : decode cX8_rowSet 30 = .ok (.iload 4, 2) := dk_21 4 (dk_at dksX8_rowSet_1 6 rfl rfl)
theorem dX8_rowSet_32 : decode cX8_rowSet 32 = .ok (.invokevirtual 336, 3) := dk_182 1 80 (dk_at dksX8_rowSet_1 8 rfl rfl)
theorem dX8_rowSet_35 : decode cX8_rowSet 35 = .ok (.iconst (-1), 1) := dk_2 (dk_at dksX8_rowSet_1 11 rfl rfl)
theorem dX8_rowSet_36 : decode cX8_rowSet 36 = .ok (.if_icmp .ne 7, 3) := dk_160 0 7 (dk_at dksX8_rowSet_1 12 rfl rfl)
theorem dX8_rowSet_39 : decode cX8_rowSet 39 = .ok (.iconst 1, 1) := dk_4 (dk_at dksX8_rowSet_1 15 rfl rfl)
theorem dX8_rowSet_40 : decode cX8_rowSet 40 = .ok (.goto 4, 3) := dk_167 0 4 (dk_at dksX8_rowSet_1 16 rfl rfl)
theorem dX8_rowSet_43 : decode cX8_rowSet 43 = .ok (.iconst 0, 1) := dk_3 (dk_at dksX8_rowSet_1 19 rfl rfl)
theorem dX8_rowSet_44 : decode cX8_rowSet 44 = .ok (.iload 4, 2) := dk_21 4 (dk_at dksX8_rowSet_1 20 rfl rfl)
theorem dX8_rowSet_46 : decode cX8_rowSet 46 = .ok (.ishl, 1) := dk_120 (dk_at dksX8_rowSet_1 22 rfl rfl)
theorem dX8_rowSet_47 : decode cX8_rowSet 47 = .ok (.ior, 1) := dk_128 (dk_at dksX8_rowSet_1 23 rfl rfl)
theorem dX8_rowSet_48 : decode cX8_rowSet 48 = .ok (.istore_n 3, 1) := dk_62 (dk_at dksX8_rowSet_2 0 rfl rfl)
theorem dX8_rowSet_49 : decode cX8_rowSet 49 = .ok (.iinc 4 1, 3) := dk_132 4 1 (dk_at dksX8_rowSet_2 1 rfl rfl)
theorem dX8_rowSet_52 : decode cX8_rowSet 52 = .ok (.goto (-47), 3) := dk_167 255 209 (dk_at dksX8_rowSet_2 4 rfl rfl)
theorem dX8_rowSet_55 : decode cX8_rowSet 55 = .ok (.iload_n 3, 1) := dk_29 (dk_at dksX8_rowSet_2 7 rfl rfl)
theorem dX8_rowSet_56 : decode cX8_rowSet 56 = .ok (.ireturn, 1) := dk_172 (dk_at dksX8_rowSet_2 8 rfl rfl)
abbrev cX8_film : ByteArray := prog_16_method_71_code
def yX8_film : MethodName := ⟨RX8, "film", "(III)I"⟩
def dkwX8_film_3 : List UInt8 := [27, 104, 21, 5, 96, 42, 180, 0, 41, 21, 5, 46, 79, 132, 5, 1, 167, 255, 227, 21, 4, 172]
abbrev dktX8_film_3 : List UInt8 := dkwX8_film_3 ++ []
def dkwX8_film_2 : List UInt8 := [182, 1, 29, 87, 42, 182, 1, 44, 3, 54, 5, 21, 5, 21, 4, 162, 0, 28, 42, 180, 0, 78, 16, 40]
abbrev dktX8_film_2 : List UInt8 := dkwX8_film_2 ++ dktX8_film_3
def dkwX8_film_1 : List UInt8 := [172, 42, 29, 182, 0, 141, 54, 4, 42, 27, 3, 21, 4, 182, 1, 94, 87, 42, 182, 1, 41, 42, 28, 29]
abbrev dktX8_film_1 : List UInt8 := dkwX8_film_1 ++ dktX8_film_2
def dkwX8_film_0 : List UInt8 := [27, 184, 1, 83, 153, 0, 18, 42, 28, 182, 0, 112, 153, 0, 10, 29, 184, 0, 97, 154, 0, 6, 16, 254]
abbrev dktX8_film_0 : List UInt8 := dkwX8_film_0 ++ dktX8_film_1
theorem dksX8_film_0 : cX8_film.data.toList.drop 0 = dktX8_film_0 := by decide +kernel
theorem dksX8_film_1 : cX8_film.data.toList.drop 24 = dktX8_film_1 := dk_seg dksX8_film_0 24 rfl rfl
theorem dksX8_film_2 : cX8_film.data.toList.drop 48 = dktX8_film_2 := dk_seg dksX8_film_1 24 rfl rfl
theorem dksX8_film_3 : cX8_film.data.toList.drop 72 = dktX8_film_3 := dk_seg dksX8_film_2 24 rfl rfl
theorem dX8_film_0 : decode cX8_film 0 = .ok (.iload_n 1, 1) := dk_27 (dk_at dksX8_film_0 0 rfl rfl)
theorem dX8_film_1 : decode cX8_film 1 = .ok (.invokestatic 339, 3) := dk_184 1 83 (dk_at dksX8_film_0 1 rfl rfl)
theorem dX8_film_4 : decode cX8_film 4 = .ok (.ifCond .eq 18, 3) := dk_153 0 18 (dk_at dksX8_film_0 4 rfl rfl)
theorem dX8_film_7 : decode cX8_film 7 = .ok (.aload_n 0, 1) := dk_42 (dk_at dksX8_film_0 7 rfl rfl)
theorem dX8_film_8 : decode cX8_film 8 = .ok (.iload_n 2, 1) := dk_28 (dk_at dksX8_film_0 8 rfl rfl)
theorem dX8_film_9 : decode cX8_film 9 = .ok (.invokevirtual 112, 3) := dk_182 0 112 (dk_at dksX8_film_0 9 rfl rfl)
theorem dX8_film_12 : decode cX8_film 12 = .ok (.ifCond .eq 10, 3) := dk_153 0 10 (dk_at dksX8_film_0 12 rfl rfl)
theorem dX8_film_15 : decode cX8_film 15 = .ok (.iload_n 3, 1) := dk_29 (dk_at dksX8_film_0 15 rfl rfl)
theorem dX8_film_16 : decode cX8_film 16 = .ok (.invokestatic 97, 3) := dk_184 0 97 (dk_at dksX8_film_0 16 rfl rfl)
theorem dX8_film_19 : decode cX8_film 19 = .ok (.ifCond .ne 6, 3) := dk_154 0 6 (dk_at dksX8_film_0 19 rfl rfl)
theorem dX8_film_22 : decode cX8_film 22 = .ok (.bipush (-2), 2) := dk_16 254 (dk_at dksX8_film_0 22 rfl rfl)
theorem dX8_film_24 : decode cX8_film 24 = .ok (.ireturn, 1) := dk_172 (dk_at dksX8_film_1 0 rfl rfl)
theorem dX8_film_25 : decode cX8_film 25 = .ok (.aload_n 0, 1) := dk_42 (dk_at dksX8_film_1 1 rfl rfl)
theorem dX8_film_26 : decode cX8_film 26 = .ok (.iload_n 3, 1) := dk_29 (dk_at dksX8_film_1 2 rfl rfl)
theorem dX8_film_27 : decode cX8_film 27 = .ok (.invokevirtual 141, 3) := dk_182 0 141 (dk_at dksX8_film_1 3 rfl rfl)
theorem dX8_film_30 : decode cX8_film 30 = .ok (.istore 4, 2) := dk_54 4 (dk_at dksX8_film_1 6 rfl rfl)
theorem dX8_film_32 : decode cX8_film 32 = .ok (.aload_n 0, 1) := dk_42 (dk_at dksX8_film_1 8 rfl rfl)
theorem dX8_film_33 : decode cX8_film 33 = .ok (.iload_n 1, 1) := dk_27 (dk_at dksX8_film_1 9 rfl rfl)
theorem dX8_film_34 : decode cX8_film 34 = .ok (.iconst 0, 1) := dk_3 (dk_at dksX8_film_1 10 rfl rfl)
theorem dX8_film_35 : decode cX8_film 35 = .ok (.iload 4, 2) := dk_21 4 (dk_at dksX8_film_1 11 rfl rfl)
theorem dX8_film_37 : decode cX8_film 37 = .ok (.invokevirtual 350, 3) := dk_182 1 94 (dk_at dksX8_film_1 13 rfl rfl)
theorem dX8_film_40 : decode cX8_film 40 = .ok (.pop, 1) := dk_87 (dk_at dksX8_film_1 16 rfl rfl)
theorem dX8_film_41 : decode cX8_film 41 = .ok (.aload_n 0, 1) := dk_42 (dk_at dksX8_film_1 17 rfl rfl)
theorem dX8_film_42 : decode cX8_film 42 = .ok (.invokevirtual 297, 3) := dk_182 1 41 (dk_at dksX8_film_1 18 rfl rfl)
theorem dX8_film_45 : decode cX8_film 45 = .ok (.aload_n 0, 1) := dk_42 (dk_at dksX8_film_1 21 rfl rfl)
theorem dX8_film_46 : decode cX8_film 46 = .ok (.iload_n 2, 1) := dk_28 (dk_at dksX8_film_1 22 rfl rfl)
theorem dX8_film_47 : decode cX8_film 47 = .ok (.iload_n 3, 1) := dk_29 (dk_at dksX8_film_1 23 rfl rfl)
theorem dX8_film_48 : decode cX8_film 48 = .ok (.invokevirtual 285, 3) := dk_182 1 29 (dk_at dksX8_film_2 0 rfl rfl)
theorem dX8_film_51 : decode cX8_film 51 = .ok (.pop, 1) := dk_87 (dk_at dksX8_film_2 3 rfl rfl)
theorem dX8_film_52 : decode cX8_film 52 = .ok (.aload_n 0, 1) := dk_42 (dk_at dksX8_film_2 4 rfl rfl)
theorem dX8_film_53 : decode cX8_film 53 = .ok (.invokevirtual 300, 3) := dk_182 1 44 (dk_at dksX8_film_2 5 rfl rfl)
theorem dX8_film_56 : decode cX8_film 56 = .ok (.iconst 0, 1) := dk_3 (dk_at dksX8_film_2 8 rfl rfl)
theorem dX8_film_57 : decode cX8_film 57 = .ok (.istore 5, 2) := dk_54 5 (dk_at dksX8_film_2 9 rfl rfl)
theorem dX8_film_59 : decode cX8_film 59 = .ok (.iload 5, 2) := dk_21 5 (dk_at dksX8_film_2 11 rfl rfl)
theorem dX8_film_61 : decode cX8_film 61 = .ok (.iload 4, 2) := dk_21 4 (dk_at dksX8_film_2 13 rfl rfl)
theorem dX8_film_63 : decode cX8_film 63 = .ok (.if_icmp .ge 28, 3) := dk_162 0 28 (dk_at dksX8_film_2 15 rfl rfl)
theorem dX8_film_66 : decode cX8_film 66 = .ok (.aload_n 0, 1) := dk_42 (dk_at dksX8_film_2 18 rfl rfl)
theorem dX8_film_67 : decode cX8_film 67 = .ok (.getfield 78, 3) := dk_180 0 78 (dk_at dksX8_film_2 19 rfl rfl)
theorem dX8_film_70 : decode cX8_film 70 = .ok (.bipush 40, 2) := dk_16 40 (dk_at dksX8_film_2 22 rfl rfl)
theorem dX8_film_72 : decode cX8_film 72 = .ok (.iload_n 1, 1) := dk_27 (dk_at dksX8_film_3 0 rfl rfl)
theorem dX8_film_73 : decode cX8_film 73 = .ok (.imul, 1) := dk_104 (dk_at dksX8_film_3 1 rfl rfl)
theorem dX8_film_74 : decode cX8_film 74 = .ok (.iload 5, 2) := dk_21 5 (dk_at dksX8_film_3 2 rfl rfl)
theorem dX8_film_76 : decode cX8_film 76 = .ok (.iadd, 1) := dk_96 (dk_at dksX8_film_3 4 rfl rfl)
theorem dX8_film_77 : decode cX8_film 77 = .ok (.aload_n 0, 1) := dk_42 (dk_at dksX8_film_3 5 rfl rfl)
theorem dX8_film_78 : decode cX8_film 78 = .ok (.getfield 41, 3) := dk_180 0 41 (dk_at dksX8_film_3 6 rfl rfl)
theorem dX8_film_81 : decode cX8_film 81 = .ok (.iload 5, 2) := dk_21 5 (dk_at dksX8_film_3 9 rfl rfl)
theorem dX8_film_83 : decode cX8_film 83 = .ok (.iaload, 1) := dk_46 (dk_at dksX8_film_3 11 rfl rfl)
theorem dX8_film_84 : decode cX8_film 84 = .ok (.iastore, 1) := dk_79 (dk_at dksX8_film_3 12 rfl rfl)
theorem dX8_film_85 : decode cX8_film 85 = .ok (.iinc 5 1, 3) := dk_132 5 1 (dk_at dksX8_film_3 13 rfl rfl)
theorem dX8_film_88 : decode cX8_film 88 = .ok (.goto (-29), 3) := dk_167 255 227 (dk_at dksX8_film_3 16 rfl rfl)
theorem dX8_film_91 : decode cX8_film 91 = .ok (.iload 4, 2) := dk_21 4 (dk_at dksX8_film_3 19 rfl rfl)
theorem dX8_film_93 : decode cX8_film 93 = .ok (.ireturn, 1) := dk_172 (dk_at dksX8_film_3 21 rfl rfl)
abbrev cX8_sheet : ByteArray := prog_16_method_79_code
def yX8_sheet : MethodName := ⟨RX8, "sheet", "(III)I"⟩
def dkwX8_sheet_4 : List UInt8 := [16, 40, 27, 104, 21, 4, 96, 3, 79, 132, 4, 1, 167, 255, 230, 4, 172]
abbrev dktX8_sheet_4 : List UInt8 := dkwX8_sheet_4 ++ []
def dkwX8_sheet_3 : List UInt8 := [180, 0, 75, 27, 29, 79, 3, 54, 4, 21, 4, 29, 162, 0, 26, 28, 155, 0, 22, 42, 180, 0, 78]
abbrev dktX8_sheet_3 : List UInt8 := dkwX8_sheet_3 ++ dktX8_sheet_4
def dkwX8_sheet_2 : List UInt8 := [180, 0, 68, 27, 28, 155, 0, 7, 4, 167, 0, 4, 3, 84, 42, 180, 0, 72, 27, 28, 79, 42]
abbrev dktX8_sheet_2 : List UInt8 := dkwX8_sheet_2 ++ dktX8_sheet_3
def dkwX8_sheet_1 : List UInt8 := [155, 0, 12, 29, 16, 40, 164, 0, 6, 16, 254, 172, 28, 155, 0, 10, 29, 156, 0, 6, 16, 242, 172, 42]
abbrev dktX8_sheet_1 : List UInt8 := dkwX8_sheet_1 ++ dktX8_sheet_2
def dkwX8_sheet_0 : List UInt8 := [27, 184, 1, 83, 153, 0, 27, 28, 133, 20, 1, 107, 20, 0, 110, 184, 0, 91, 153, 0, 13, 28]
abbrev dktX8_sheet_0 : List UInt8 := dkwX8_sheet_0 ++ dktX8_sheet_1
theorem dksX8_sheet_0 : cX8_sheet.data.toList.drop 0 = dktX8_sheet_0 := by decide +kernel
theorem dksX8_sheet_1 : cX8_sheet.data.toList.drop 22 = dktX8_sheet_1 := dk_seg dksX8_sheet_0 22 rfl rfl
theorem dksX8_sheet_2 : cX8_sheet.data.toList.drop 46 = dktX8_sheet_2 := dk_seg dksX8_sheet_1 24 rfl rfl
theorem dksX8_sheet_3 : cX8_sheet.data.toList.drop 68 = dktX8_sheet_3 := dk_seg dksX8_sheet_2 22 rfl rfl
theorem dksX8_sheet_4 : cX8_sheet.data.toList.drop 91 = dktX8_sheet_4 := dk_seg dksX8_sheet_3 23 rfl rfl
theorem dX8_sheet_0 : decode cX8_sheet 0 = .ok (.iload_n 1, 1) := dk_27 (dk_at dksX8_sheet_0 0 rfl rfl)
theorem dX8_sheet_1 : decode cX8_sheet 1 = .ok (.invokestatic 339, 3) := dk_184 1 83 (dk_at dksX8_sheet_0 1 rfl rfl)
theorem dX8_sheet_4 : decode cX8_sheet 4 = .ok (.ifCond .eq 27, 3) := dk_153 0 27 (dk_at dksX8_sheet_0 4 rfl rfl)
theorem dX8_sheet_7 : decode cX8_sheet 7 = .ok (.iload_n 2, 1) := dk_28 (dk_at dksX8_sheet_0 7 rfl rfl)
theorem dX8_sheet_8 : decode cX8_sheet 8 = .ok (.i2l, 1) := dk_133 (dk_at dksX8_sheet_0 8 rfl rfl)
theorem dX8_sheet_9 : decode cX8_sheet 9 = .ok (.ldc2_w 363, 3) := dk_20 1 107 (dk_at dksX8_sheet_0 9 rfl rfl)
theorem dX8_sheet_12 : decode cX8_sheet 12 = .ok (.ldc2_w 110, 3) := dk_20 0 110 (dk_at dksX8_sheet_0 12 rfl rfl)
theorem dX8_sheet_15 : decode cX8_sheet 15 = .ok (.invokestatic 91, 3) := dk_184 0 91 (dk_at dksX8_sheet_0 15 rfl rfl)
theorem dX8_sheet_18 : decode cX8_sheet 18 = .ok (.ifCond .eq 13, 3) := dk_153 0 13 (dk_at dksX8_sheet_0 18 rfl rfl)
theorem dX8_sheet_21 : decode cX8_sheet 21 = .ok (.iload_n 2, 1) := dk_28 (dk_at dksX8_sheet_0 21 rfl rfl)
theorem dX8_sheet_22 : decode cX8_sheet 22 = .ok (.ifCond .lt 12, 3) := dk_155 0 12 (dk_at dksX8_sheet_1 0 rfl rfl)
theorem dX8_sheet_25 : decode cX8_sheet 25 = .ok (.iload_n 3, 1) := dk_29 (dk_at dksX8_sheet_1 3 rfl rfl)
theorem dX8_sheet_26 : decode cX8_sheet 26 = .ok (.bipush 40, 2) := dk_16 40 (dk_at dksX8_sheet_1 4 rfl rfl)
theorem dX8_sheet_28 : decode cX8_sheet 28 = .ok (.if_icmp .le 6, 3) := dk_164 0 6 (dk_at dksX8_sheet_1 6 rfl rfl)
theorem dX8_sheet_31 : decode cX8_sheet 31 = .ok (.bipush (-2), 2) := dk_16 254 (dk_at dksX8_sheet_1 9 rfl rfl)
theorem dX8_sheet_33 : decode cX8_sheet 33 = .ok (.ireturn, 1) := dk_172 (dk_at dksX8_sheet_1 11 rfl rfl)
theorem dX8_sheet_34 : decode cX8_sheet 34 = .ok (.iload_n 2, 1) := dk_28 (dk_at dksX8_sheet_1 12 rfl rfl)
theorem dX8_sheet_35 : decode cX8_sheet 35 = .ok (.ifCond .lt 10, 3) := dk_155 0 10 (dk_at dksX8_sheet_1 13 rfl rfl)
theorem dX8_sheet_38 : decode cX8_sheet 38 = .ok (.iload_n 3, 1) := dk_29 (dk_at dksX8_sheet_1 16 rfl rfl)
theorem dX8_sheet_39 : decode cX8_sheet 39 = .ok (.ifCond .ge 6, 3) := dk_156 0 6 (dk_at dksX8_sheet_1 17 rfl rfl)
theorem dX8_sheet_42 : decode cX8_sheet 42 = .ok (.bipush (-14), 2) := dk_16 242 (dk_at dksX8_sheet_1 20 rfl rfl)
theorem dX8_sheet_44 : decode cX8_sheet 44 = .ok (.ireturn, 1) := dk_172 (dk_at dksX8_sheet_1 22 rfl rfl)
theorem dX8_sheet_45 : decode cX8_sheet 45 = .ok (.aload_n 0, 1) := dk_42 (dk_at dksX8_sheet_1 23 rfl rfl)
theorem dX8_sheet_46 : decode cX8_sheet 46 = .ok (.getfield 68, 3) := dk_180 0 68 (dk_at dksX8_sheet_2 0 rfl rfl)
theorem dX8_sheet_49 : decode cX8_sheet 49 = .ok (.iload_n 1, 1) := dk_27 (dk_at dksX8_sheet_2 3 rfl rfl)
theorem dX8_sheet_50 : decode cX8_sheet 50 = .ok (.iload_n 2, 1) := dk_28 (dk_at dksX8_sheet_2 4 rfl rfl)
theorem dX8_sheet_51 : decode cX8_sheet 51 = .ok (.ifCond .lt 7, 3) := dk_155 0 7 (dk_at dksX8_sheet_2 5 rfl rfl)
theorem dX8_sheet_54 : decode cX8_sheet 54 = .ok (.iconst 1, 1) := dk_4 (dk_at dksX8_sheet_2 8 rfl rfl)
theorem dX8_sheet_55 : decode cX8_sheet 55 = .ok (.goto 4, 3) := dk_167 0 4 (dk_at dksX8_sheet_2 9 rfl rfl)
theorem dX8_sheet_58 : decode cX8_sheet 58 = .ok (.iconst 0, 1) := dk_3 (dk_at dksX8_sheet_2 12 rfl rfl)
theorem dX8_sheet_59 : decode cX8_sheet 59 = .ok (.bastore, 1) := dk_84 (dk_at dksX8_sheet_2 13 rfl rfl)
theorem dX8_sheet_60 : decode cX8_sheet 60 = .ok (.aload_n 0, 1) := dk_42 (dk_at dksX8_sheet_2 14 rfl rfl)
theorem dX8_sheet_61 : decode cX8_sheet 61 = .ok (.getfield 72, 3) := dk_180 0 72 (dk_at dksX8_sheet_2 15 rfl rfl)
theorem dX8_sheet_64 : decode cX8_sheet 64 = .ok (.iload_n 1, 1) := dk_27 (dk_at dksX8_sheet_2 18 rfl rfl)
theorem dX8_sheet_65 : decode cX8_sheet 65 = .ok (.iload_n 2, 1) := dk_28 (dk_at dksX8_sheet_2 19 rfl rfl)
theorem dX8_sheet_66 : decode cX8_sheet 66 = .ok (.iastore, 1) := dk_79 (dk_at dksX8_sheet_2 20 rfl rfl)
theorem dX8_sheet_67 : decode cX8_sheet 67 = .ok (.aload_n 0, 1) := dk_42 (dk_at dksX8_sheet_2 21 rfl rfl)
theorem dX8_sheet_68 : decode cX8_sheet 68 = .ok (.getfield 75, 3) := dk_180 0 75 (dk_at dksX8_sheet_3 0 rfl rfl)
theorem dX8_sheet_71 : decode cX8_sheet 71 = .ok (.iload_n 1, 1) := dk_27 (dk_at dksX8_sheet_3 3 rfl rfl)
theorem dX8_sheet_72 : decode cX8_sheet 72 = .ok (.iload_n 3, 1) := dk_29 (dk_at dksX8_sheet_3 4 rfl rfl)
theorem dX8_sheet_73 : decode cX8_sheet 73 = .ok (.iastore, 1) := dk_79 (dk_at dksX8_sheet_3 5 rfl rfl)
theorem dX8_sheet_74 : decode cX8_sheet 74 = .ok (.iconst 0, 1) := dk_3 (dk_at dksX8_sheet_3 6 rfl rfl)
theorem dX8_sheet_75 : decode cX8_sheet 75 = .ok (.istore 4, 2) := dk_54 4 (dk_at dksX8_sheet_3 7 rfl rfl)
theorem dX8_sheet_77 : decode cX8_sheet 77 = .ok (.iload 4, 2) := dk_21 4 (dk_at dksX8_sheet_3 9 rfl rfl)
theorem dX8_sheet_79 : decode cX8_sheet 79 = .ok (.iload_n 3, 1) := dk_29 (dk_at dksX8_sheet_3 11 rfl rfl)
theorem dX8_sheet_80 : decode cX8_sheet 80 = .ok (.if_icmp .ge 26, 3) := dk_162 0 26 (dk_at dksX8_sheet_3 12 rfl rfl)
theorem dX8_sheet_83 : decode cX8_sheet 83 = .ok (.iload_n 2, 1) := dk_28 (dk_at dksX8_sheet_3 15 rfl rfl)
theorem dX8_sheet_84 : decode cX8_sheet 84 = .ok (.ifCond .lt 22, 3) := dk_155 0 22 (dk_at dksX8_sheet_3 16 rfl rfl)
theorem dX8_sheet_87 : decode cX8_sheet 87 = .ok (.aload_n 0, 1) := dk_42 (dk_at dksX8_sheet_3 19 rfl rfl)
theorem dX8_sheet_88 : decode cX8_sheet 88 = .ok (.getfield 78, 3) := dk_180 0 78 (dk_at dksX8_sheet_3 20 rfl rfl)
theorem dX8_sheet_91 : decode cX8_sheet 91 = .ok (.bipush 40, 2) := dk_16 40 (dk_at dksX8_sheet_4 0 rfl rfl)
theorem dX8_sheet_93 : decode cX8_sheet 93 = .ok (.iload_n 1, 1) := dk_27 (dk_at dksX8_sheet_4 2 rfl rfl)
theorem dX8_sheet_94 : decode cX8_sheet 94 = .ok (.imul, 1) := dk_104 (dk_at dksX8_sheet_4 3 rfl rfl)
theorem dX8_sheet_95 : decode cX8_sheet 95 = .ok (.iload 4, 2) := dk_21 4 (dk_at dksX8_sheet_4 4 rfl rfl)
theorem dX8_sheet_97 : decode cX8_sheet 97 = .ok (.iadd, 1) := dk_96 (dk_at dksX8_sheet_4 6 rfl rfl)
theorem dX8_sheet_98 : decode cX8_sheet 98 = .ok (.iconst 0, 1) := dk_3 (dk_at dksX8_sheet_4 7 rfl rfl)
theorem dX8_sheet_99 : decode cX8_sheet 99 = .ok (.iastore, 1) := dk_79 (dk_at dksX8_sheet_4 8 rfl rfl)
theorem dX8_sheet_100 : decode cX8_sheet 100 = .ok (.iinc 4 1, 3) := dk_132 4 1 (dk_at dksX8_sheet_4 9 rfl rfl)
theorem dX8_sheet_103 : decode cX8_sheet 103 = .ok (.goto (-26), 3) := dk_167 255 230 (dk_at dksX8_sheet_4 12 rfl rfl)
theorem dX8_sheet_106 : decode cX8_sheet 106 = .ok (.iconst 1, 1) := dk_4 (dk_at dksX8_sheet_4 15 rfl rfl)
theorem dX8_sheet_107 : decode cX8_sheet 107 = .ok (.ireturn, 1) := dk_172 (dk_at dksX8_sheet_4 16 rfl rfl)
abbrev cX8_drawn : ByteArray := prog_16_method_73_code
def yX8_drawn : MethodName := ⟨RX8, "drawn", "(II)I"⟩
def dkwX8_drawn_0 : List UInt8 := [42, 28, 182, 0, 112, 153, 0, 12, 42, 27, 28, 182, 1, 98, 167, 0, 5, 16, 156, 172]
abbrev dktX8_drawn_0 : List UInt8 := dkwX8_drawn_0 ++ []
theorem dksX8_drawn_0 : cX8_drawn.data.toList.drop 0 = dktX8_drawn_0 := by decide +kernel
theorem dX8_drawn_0 : decode cX8_drawn 0 = .ok (.aload_n 0, 1) := dk_42 (dk_at dksX8_drawn_0 0 rfl rfl)
theorem dX8_drawn_1 : decode cX8_drawn 1 = .ok (.iload_n 2, 1) := dk_28 (dk_at dksX8_drawn_0 1 rfl rfl)
theorem dX8_drawn_2 : decode cX8_drawn 2 = .ok (.invokevirtual 112, 3) := dk_182 0 112 (dk_at dksX8_drawn_0 2 rfl rfl)
theorem dX8_drawn_5 : decode cX8_drawn 5 = .ok (.ifCond .eq 12, 3) := dk_153 0 12 (dk_at dksX8_drawn_0 5 rfl rfl)
theorem dX8_drawn_8 : decode cX8_drawn 8 = .ok (.aload_n 0, 1) := dk_42 (dk_at dksX8_drawn_0 8 rfl rfl)
theorem dX8_drawn_9 : decode cX8_drawn 9 = .ok (.iload_n 1, 1) := dk_27 (dk_at dksX8_drawn_0 9 rfl rfl)
theorem dX8_drawn_10 : decode cX8_drawn 10 = .ok (.iload_n 2, 1) := dk_28 (dk_at dksX8_drawn_0 10 rfl rfl)
theorem dX8_drawn_11 : decode cX8_drawn 11 = .ok (.invokevirtual 354, 3) := dk_182 1 98 (dk_at dksX8_drawn_0 11 rfl rfl)
theorem dX8_drawn_14 : decode cX8_drawn 14 = .ok (.goto 5, 3) := dk_167 0 5 (dk_at dksX8_drawn_0 14 rfl rfl)
theorem dX8_drawn_17 : decode cX8_drawn 17 = .ok (.bipush (-100), 2) := dk_16 156 (dk_at dksX8_drawn_0 17 rfl rfl)
theorem dX8_drawn_19 : decode cX8_drawn 19 = .ok (.ireturn, 1) := dk_172 (dk_at dksX8_drawn_0 19 rfl rfl)
abbrev cX8_takenDrawn : ByteArray := prog_16_method_72_code
def yX8_takenDrawn : MethodName := ⟨RX8, "takenDrawn", "(II)I"⟩
def dkwX8_takenDrawn_3 : List UInt8 := [167, 255, 210, 42, 28, 7, 182, 1, 29, 54, 4, 42, 182, 1, 44, 21, 4, 172]
abbrev dktX8_takenDrawn_3 : List UInt8 := dkwX8_takenDrawn_3 ++ []
def dkwX8_takenDrawn_2 : List UInt8 := [29, 16, 9, 124, 6, 112, 154, 0, 7, 3, 167, 0, 7, 4, 21, 4, 120, 128, 79, 132, 4, 1]
abbrev dktX8_takenDrawn_2 : List UInt8 := dkwX8_takenDrawn_2 ++ dktX8_takenDrawn_3
def dkwX8_takenDrawn_1 : List UInt8 := [21, 4, 16, 24, 162, 0, 45, 29, 19, 1, 97, 104, 17, 48, 57, 96, 62, 42, 180, 0, 23, 7, 92, 46]
abbrev dktX8_takenDrawn_1 : List UInt8 := dkwX8_takenDrawn_1 ++ dktX8_takenDrawn_2
def dkwX8_takenDrawn_0 : List UInt8 := [42, 182, 1, 41, 27, 62, 42, 180, 0, 23, 7, 3, 79, 42, 180, 0, 26, 7, 16, 24, 79, 3, 54, 4]
abbrev dktX8_takenDrawn_0 : List UInt8 := dkwX8_takenDrawn_0 ++ dktX8_takenDrawn_1
theorem dksX8_takenDrawn_0 : cX8_takenDrawn.data.toList.drop 0 = dktX8_takenDrawn_0 := by decide +kernel
theorem dksX8_takenDrawn_1 : cX8_takenDrawn.data.toList.drop 24 = dktX8_takenDrawn_1 := dk_seg dksX8_takenDrawn_0 24 rfl rfl
theorem dksX8_takenDrawn_2 : cX8_takenDrawn.data.toList.drop 48 = dktX8_takenDrawn_2 := dk_seg dksX8_takenDrawn_1 24 rfl rfl
theorem dksX8_takenDrawn_3 : cX8_takenDrawn.data.toList.drop 70 = dktX8_takenDrawn_3 := dk_seg dksX8_takenDrawn_2 22 rfl rfl
theorem dX8_takenDrawn_0 : decode cX8_takenDrawn 0 = .ok (.aload_n 0, 1) := dk_42 (dk_at dksX8_takenDrawn_0 0 rfl rfl)
theorem dX8_takenDrawn_1 : decode cX8_takenDrawn 1 = .ok (.invokevirtual 297, 3) := dk_182 1 41 (dk_at dksX8_takenDrawn_0 1 rfl rfl)
theorem dX8_takenDrawn_4 : decode cX8_takenDrawn 4 = .ok (.iload_n 1, 1) := dk_27 (dk_at dksX8_takenDrawn_0 4 rfl rfl)
theorem dX8_takenDrawn_5 : decode cX8_takenDrawn 5 = .ok (.istore_n 3, 1) := dk_62 (dk_at dksX8_takenDrawn_0 5 rfl rfl)
theorem dX8_takenDrawn_6 : decode cX8_takenDrawn 6 = .ok (.aload_n 0, 1) := dk_42 (dk_at dksX8_takenDrawn_0 6 rfl rfl)
theorem dX8_takenDrawn_7 : decode cX8_takenDrawn 7 = .ok (.getfield 23, 3) := dk_180 0 23 (dk_at dksX8_takenDrawn_0 7 rfl rfl)
theorem dX8_takenDrawn_10 : decode cX8_takenDrawn 10 = .ok (.iconst 4, 1) := dk_7 (dk_at dksX8_takenDrawn_0 10 rfl rfl)
theorem dX8_takenDrawn_11 : decode cX8_takenDrawn 11 = .ok (.iconst 0, 1) := dk_3 (dk_at dksX8_takenDrawn_0 11 rfl rfl)
theorem dX8_takenDrawn_12 : decode cX8_takenDrawn 12 = .ok (.iastore, 1) := dk_79 (dk_at dksX8_takenDrawn_0 12 rfl rfl)
theorem dX8_takenDrawn_13 : decode cX8_takenDrawn 13 = .ok (.aload_n 0, 1) := dk_42 (dk_at dksX8_takenDrawn_0 13 rfl rfl)
theorem dX8_takenDrawn_14 : decode cX8_takenDrawn 14 = .ok (.getfield 26, 3) := dk_180 0 26 (dk_at dksX8_takenDrawn_0 14 rfl rfl)
theorem dX8_takenDrawn_17 : decode cX8_takenDrawn 17 = .ok (.iconst 4, 1) := dk_7 (dk_at dksX8_takenDrawn_0 17 rfl rfl)
theorem dX8_takenDrawn_18 : decode cX8_takenDrawn 18 = .ok (.bipush 24, 2) := dk_16 24 (dk_at dksX8_takenDrawn_0 18 rfl rfl)
theorem dX8_takenDrawn_20 : decode cX8_takenDrawn 20 = .ok (.iastore, 1) := dk_79 (dk_at dksX8_takenDrawn_0 20 rfl rfl)
theorem dX8_takenDrawn_21 : decode cX8_takenDrawn 21 = .ok (.iconst 0, 1) := dk_3 (dk_at dksX8_takenDrawn_0 21 rfl rfl)
theorem dX8_takenDrawn_22 : decode cX8_takenDrawn 22 = .ok (.istore 4, 2) := dk_54 4 (dk_at dksX8_takenDrawn_0 22 rfl rfl)
theorem dX8_takenDrawn_24 : decode cX8_takenDrawn 24 = .ok (.iload 4, 2) := dk_21 4 (dk_at dksX8_takenDrawn_1 0 rfl rfl)
theorem dX8_takenDrawn_26 : decode cX8_takenDrawn 26 = .ok (.bipush 24, 2) := dk_16 24 (dk_at dksX8_takenDrawn_1 2 rfl rfl)
theorem dX8_takenDrawn_28 : decode cX8_takenDrawn 28 = .ok (.if_icmp .ge 45, 3) := dk_162 0 45 (dk_at dksX8_takenDrawn_1 4 rfl rfl)
theorem dX8_takenDrawn_31 : decode cX8_takenDrawn 31 = .ok (.iload_n 3, 1) := dk_29 (dk_at dksX8_takenDrawn_1 7 rfl rfl)
theorem dX8_takenDrawn_32 : decode cX8_takenDrawn 32 = .ok (.ldc_w 353, 3) := dk_19 1 97 (dk_at dksX8_takenDrawn_1 8 rfl rfl)
theorem dX8_takenDrawn_35 : decode cX8_takenDrawn 35 = .ok (.imul, 1) := dk_104 (dk_at dksX8_takenDrawn_1 11 rfl rfl)
theorem dX8_takenDrawn_36 : decode cX8_takenDrawn 36 = .ok (.sipush 12345, 3) := dk_17 48 57 (dk_at dksX8_takenDrawn_1 12 rfl rfl)
theorem dX8_takenDrawn_39 : decode cX8_takenDrawn 39 = .ok (.iadd, 1) := dk_96 (dk_at dksX8_takenDrawn_1 15 rfl rfl)
theorem dX8_takenDrawn_40 : decode cX8_takenDrawn 40 = .ok (.istore_n 3, 1) := dk_62 (dk_at dksX8_takenDrawn_1 16 rfl rfl)
theorem dX8_takenDrawn_41 : decode cX8_takenDrawn 41 = .ok (.aload_n 0, 1) := dk_42 (dk_at dksX8_takenDrawn_1 17 rfl rfl)
theorem dX8_takenDrawn_42 : decode cX8_takenDrawn 42 = .ok (.getfield 23, 3) := dk_180 0 23 (dk_at dksX8_takenDrawn_1 18 rfl rfl)
theorem dX8_takenDrawn_45 : decode cX8_takenDrawn 45 = .ok (.iconst 4, 1) := dk_7 (dk_at dksX8_takenDrawn_1 21 rfl rfl)
theorem dX8_takenDrawn_46 : decode cX8_takenDrawn 46 = .ok (.dup2, 1) := dk_92 (dk_at dksX8_takenDrawn_1 22 rfl rfl)
theorem dX8_takenDrawn_47 : decode cX8_takenDrawn 47 = .ok (.iaload, 1) := dk_46 (dk_at dksX8_takenDrawn_1 23 rfl rfl)
theorem dX8_takenDrawn_48 : decode cX8_takenDrawn 48 = .ok (.iload_n 3, 1) := dk_29 (dk_at dksX8_takenDrawn_2 0 rfl rfl)
theorem dX8_takenDrawn_49 : decode cX8_takenDrawn 49 = .ok (.bipush 9, 2) := dk_16 9 (dk_at dksX8_takenDrawn_2 1 rfl rfl)
theorem dX8_takenDrawn_51 : decode cX8_takenDrawn 51 = .ok (.iushr, 1) := dk_124 (dk_at dksX8_takenDrawn_2 3 rfl rfl)
theorem dX8_takenDrawn_52 : decode cX8_takenDrawn 52 = .ok (.iconst 3, 1) := dk_6 (dk_at dksX8_takenDrawn_2 4 rfl rfl)
theorem dX8_takenDrawn_53 : decode cX8_takenDrawn 53 = .ok (.irem, 1) := dk_112 (dk_at dksX8_takenDrawn_2 5 rfl rfl)
theorem dX8_takenDrawn_54 : decode cX8_takenDrawn 54 = .ok (.ifCond .ne 7, 3) := dk_154 0 7 (dk_at dksX8_takenDrawn_2 6 rfl rfl)
theorem dX8_takenDrawn_57 : decode cX8_takenDrawn 57 = .ok (.iconst 0, 1) := dk_3 (dk_at dksX8_takenDrawn_2 9 rfl rfl)
theorem dX8_takenDrawn_58 : decode cX8_takenDrawn 58 = .ok (.goto 7, 3) := dk_167 0 7 (dk_at dksX8_takenDrawn_2 10 rfl rfl)
theorem dX8_takenDrawn_61 : decode cX8_takenDrawn 61 = .ok (.iconst 1, 1) := dk_4 (dk_at dksX8_takenDrawn_2 13 rfl rfl)
theorem dX8_takenDrawn_62 : decode cX8_takenDrawn 62 = .ok (.iload 4, 2) := dk_21 4 (dk_at dksX8_takenDrawn_2 14 rfl rfl)
theorem dX8_takenDrawn_64 : decode cX8_takenDrawn 64 = .ok (.ishl, 1) := dk_120 (dk_at dksX8_takenDrawn_2 16 rfl rfl)
theorem dX8_takenDrawn_65 : decode cX8_takenDrawn 65 = .ok (.ior, 1) := dk_128 (dk_at dksX8_takenDrawn_2 17 rfl rfl)
theorem dX8_takenDrawn_66 : decode cX8_takenDrawn 66 = .ok (.iastore, 1) := dk_79 (dk_at dksX8_takenDrawn_2 18 rfl rfl)
theorem dX8_takenDrawn_67 : decode cX8_takenDrawn 67 = .ok (.iinc 4 1, 3) := dk_132 4 1 (dk_at dksX8_takenDrawn_2 19 rfl rfl)
theorem dX8_takenDrawn_70 : decode cX8_takenDrawn 70 = .ok (.goto (-46), 3) := dk_167 255 210 (dk_at dksX8_takenDrawn_3 0 rfl rfl)
theorem dX8_takenDrawn_73 : decode cX8_takenDrawn 73 = .ok (.aload_n 0, 1) := dk_42 (dk_at dksX8_takenDrawn_3 3 rfl rfl)
theorem dX8_takenDrawn_74 : decode cX8_takenDrawn 74 = .ok (.iload_n 2, 1) := dk_28 (dk_at dksX8_takenDrawn_3 4 rfl rfl)
theorem dX8_takenDrawn_75 : decode cX8_takenDrawn 75 = .ok (.iconst 4, 1) := dk_7 (dk_at dksX8_takenDrawn_3 5 rfl rfl)
theorem dX8_takenDrawn_76 : decode cX8_takenDrawn 76 = .ok (.invokevirtual 285, 3) := dk_182 1 29 (dk_at dksX8_takenDrawn_3 6 rfl rfl)
theorem dX8_takenDrawn_79 : decode cX8_takenDrawn 79 = .ok (.istore 4, 2) := dk_54 4 (dk_at dksX8_takenDrawn_3 9 rfl rfl)
theorem dX8_takenDrawn_81 : decode cX8_takenDrawn 81 = .ok (.aload_n 0, 1) := dk_42 (dk_at dksX8_takenDrawn_3 11 rfl rfl)
theorem dX8_takenDrawn_82 : decode cX8_takenDrawn 82 = .ok (.invokevirtual 300, 3) := dk_182 1 44 (dk_at dksX8_takenDrawn_3 12 rfl rfl)
theorem dX8_takenDrawn_85 : decode cX8_takenDrawn 85 = .ok (.iload 4, 2) := dk_21 4 (dk_at dksX8_takenDrawn_3 15 rfl rfl)
theorem dX8_takenDrawn_87 : decode cX8_takenDrawn 87 = .ok (.ireturn, 1) := dk_172 (dk_at dksX8_takenDrawn_3 17 rfl rfl)
abbrev cX8_chance : ByteArray := prog_16_method_74_code
def yX8_chance : MethodName := ⟨RX8, "chance", "(IIIII)J"⟩
def dkwX8_chance_4 : List UInt8 := [21, 5, 184, 1, 74, 173]
abbrev dktX8_chance_4 : List UInt8 := dkwX8_chance_4 ++ []
def dkwX8_chance_3 : List UInt8 := [21, 4, 161, 0, 7, 10, 167, 0, 4, 9, 97, 55, 6, 132, 8, 1, 167, 255, 223, 22, 6, 28, 133]
abbrev dktX8_chance_3 : List UInt8 := dkwX8_chance_3 ++ dktX8_chance_4
def dkwX8_chance_2 : List UInt8 := [9, 55, 6, 3, 54, 8, 21, 8, 28, 162, 0, 33, 22, 6, 42, 27, 21, 8, 96, 29, 182, 1, 98]
abbrev dktX8_chance_2 : List UInt8 := dkwX8_chance_2 ++ dktX8_chance_3
def dkwX8_chance_1 : List UInt8 := [20, 0, 101, 184, 0, 91, 153, 0, 14, 21, 5, 133, 9, 10, 184, 0, 91, 154, 0, 7, 20, 1, 78, 173]
abbrev dktX8_chance_1 : List UInt8 := dkwX8_chance_1 ++ dktX8_chance_2
def dkwX8_chance_0 : List UInt8 := [28, 133, 10, 20, 1, 50, 184, 0, 91, 153, 0, 35, 42, 29, 182, 0, 112, 153, 0, 27, 21, 4, 133, 9]
abbrev dktX8_chance_0 : List UInt8 := dkwX8_chance_0 ++ dktX8_chance_1
theorem dksX8_chance_0 : cX8_chance.data.toList.drop 0 = dktX8_chance_0 := by decide +kernel
theorem dksX8_chance_1 : cX8_chance.data.toList.drop 24 = dktX8_chance_1 := dk_seg dksX8_chance_0 24 rfl rfl
theorem dksX8_chance_2 : cX8_chance.data.toList.drop 48 = dktX8_chance_2 := dk_seg dksX8_chance_1 24 rfl rfl
theorem dksX8_chance_3 : cX8_chance.data.toList.drop 71 = dktX8_chance_3 := dk_seg dksX8_chance_2 23 rfl rfl
theorem dksX8_chance_4 : cX8_chance.data.toList.drop 94 = dktX8_chance_4 := dk_seg dksX8_chance_3 23 rfl rfl
theorem dX8_chance_0 : decode cX8_chance 0 = .ok (.iload_n 2, 1) := dk_28 (dk_at dksX8_chance_0 0 rfl rfl)
theorem dX8_chance_1 : decode cX8_chance 1 = .ok (.i2l, 1) := dk_133 (dk_at dksX8_chance_0 1 rfl rfl)
theorem dX8_chance_2 : decode cX8_chance 2 = .ok (.lconst 1, 1) := dk_10 (dk_at dksX8_chance_0 2 rfl rfl)
theorem dX8_chance_3 : decode cX8_chance 3 = .ok (.ldc2_w 306, 3) := dk_20 1 50 (dk_at dksX8_chance_0 3 rfl rfl)
theorem dX8_chance_6 : decode cX8_chance 6 = .ok (.invokestatic 91, 3) := dk_184 0 91 (dk_at dksX8_chance_0 6 rfl rfl)
theorem dX8_chance_9 : decode cX8_chance 9 = .ok (.ifCond .eq 35, 3) := dk_153 0 35 (dk_at dksX8_chance_0 9 rfl rfl)
theorem dX8_chance_12 : decode cX8_chance 12 = .ok (.aload_n 0, 1) := dk_42 (dk_at dksX8_chance_0 12 rfl rfl)
theorem dX8_chance_13 : decode cX8_chance 13 = .ok (.iload_n 3, 1) := dk_29 (dk_at dksX8_chance_0 13 rfl rfl)
theorem dX8_chance_14 : decode cX8_chance 14 = .ok (.invokevirtual 112, 3) := dk_182 0 112 (dk_at dksX8_chance_0 14 rfl rfl)
theorem dX8_chance_17 : decode cX8_chance 17 = .ok (.ifCond .eq 27, 3) := dk_153 0 27 (dk_at dksX8_chance_0 17 rfl rfl)
theorem dX8_chance_20 : decode cX8_chance 20 = .ok (.iload 4, 2) := dk_21 4 (dk_at dksX8_chance_0 20 rfl rfl)
theorem dX8_chance_22 : decode cX8_chance 22 = .ok (.i2l, 1) := dk_133 (dk_at dksX8_chance_0 22 rfl rfl)
theorem dX8_chance_23 : decode cX8_chance 23 = .ok (.lconst 0, 1) := dk_9 (dk_at dksX8_chance_0 23 rfl rfl)
theorem dX8_chance_24 : decode cX8_chance 24 = .ok (.ldc2_w 101, 3) := dk_20 0 101 (dk_at dksX8_chance_1 0 rfl rfl)
theorem dX8_chance_27 : decode cX8_chance 27 = .ok (.invokestatic 91, 3) := dk_184 0 91 (dk_at dksX8_chance_1 3 rfl rfl)
theorem dX8_chance_30 : decode cX8_chance 30 = .ok (.ifCond .eq 14, 3) := dk_153 0 14 (dk_at dksX8_chance_1 6 rfl rfl)
theorem dX8_chance_33 : decode cX8_chance 33 = .ok (.iload 5, 2) := dk_21 5 (dk_at dksX8_chance_1 9 rfl rfl)
theorem dX8_chance_35 : decode cX8_chance 35 = .ok (.i2l, 1) := dk_133 (dk_at dksX8_chance_1 11 rfl rfl)
theorem dX8_chance_36 : decode cX8_chance 36 = .ok (.lconst 0, 1) := dk_9 (dk_at dksX8_chance_1 12 rfl rfl)
theorem dX8_chance_37 : decode cX8_chance 37 = .ok (.lconst 1, 1) := dk_10 (dk_at dksX8_chance_1 13 rfl rfl)
theorem dX8_chance_38 : decode cX8_chance 38 = .ok (.invokestatic 91, 3) := dk_184 0 91 (dk_at dksX8_chance_1 14 rfl rfl)
theorem dX8_chance_41 : decode cX8_chance 41 = .ok (.ifCond .ne 7, 3) := dk_154 0 7 (dk_at dksX8_chance_1 17 rfl rfl)
theorem dX8_chance_44 : decode cX8_chance 44 = .ok (.ldc2_w 334, 3) := dk_20 1 78 (dk_at dksX8_chance_1 20 rfl rfl)
theorem dX8_chance_47 : decode cX8_chance 47 = .ok (.lreturn, 1) := dk_173 (dk_at dksX8_chance_1 23 rfl rfl)
theorem dX8_chance_48 : decode cX8_chance 48 = .ok (.lconst 0, 1) := dk_9 (dk_at dksX8_chance_2 0 rfl rfl)
theorem dX8_chance_49 : decode cX8_chance 49 = .ok (.lstore 6, 2) := dk_55 6 (dk_at dksX8_chance_2 1 rfl rfl)
theorem dX8_chance_51 : decode cX8_chance 51 = .ok (.iconst 0, 1) := dk_3 (dk_at dksX8_chance_2 3 rfl rfl)
theorem dX8_chance_52 : decode cX8_chance 52 = .ok (.istore 8, 2) := dk_54 8 (dk_at dksX8_chance_2 4 rfl rfl)
theorem dX8_chance_54 : decode cX8_chance 54 = .ok (.iload 8, 2) := dk_21 8 (dk_at dksX8_chance_2 6 rfl rfl)
theorem dX8_chance_56 : decode cX8_chance 56 = .ok (.iload_n 2, 1) := dk_28 (dk_at dksX8_chance_2 8 rfl rfl)
theorem dX8_chance_57 : decode cX8_chance 57 = .ok (.if_icmp .ge 33, 3) := dk_162 0 33 (dk_at dksX8_chance_2 9 rfl rfl)
theorem dX8_chance_60 : decode cX8_chance 60 = .ok (.lload 6, 2) := dk_22 6 (dk_at dksX8_chance_2 12 rfl rfl)
theorem dX8_chance_62 : decode cX8_chance 62 = .ok (.aload_n 0, 1) := dk_42 (dk_at dksX8_chance_2 14 rfl rfl)
theorem dX8_chance_63 : decode cX8_chance 63 = .ok (.iload_n 1, 1) := dk_27 (dk_at dksX8_chance_2 15 rfl rfl)
theorem dX8_chance_64 : decode cX8_chance 64 = .ok (.iload 8, 2) := dk_21 8 (dk_at dksX8_chance_2 16 rfl rfl)
theorem dX8_chance_66 : decode cX8_chance 66 = .ok (.iadd, 1) := dk_96 (dk_at dksX8_chance_2 18 rfl rfl)
theorem dX8_chance_67 : decode cX8_chance 67 = .ok (.iload_n 3, 1) := dk_29 (dk_at dksX8_chance_2 19 rfl rfl)
theorem dX8_chance_68 : decode cX8_chance 68 = .ok (.invokevirtual 354, 3) := dk_182 1 98 (dk_at dksX8_chance_2 20 rfl rfl)
theorem dX8_chance_71 : decode cX8_chance 71 = .ok (.iload 4, 2) := dk_21 4 (dk_at dksX8_chance_3 0 rfl rfl)
theorem dX8_chance_73 : decode cX8_chance 73 = .ok (.if_icmp .lt 7, 3) := dk_161 0 7 (dk_at dksX8_chance_3 2 rfl rfl)
theorem dX8_chance_76 : decode cX8_chance 76 = .ok (.lconst 1, 1) := dk_10 (dk_at dksX8_chance_3 5 rfl rfl)
theorem dX8_chance_77 : decode cX8_chance 77 = .ok (.goto 4, 3) := dk_167 0 4 (dk_at dksX8_chance_3 6 rfl rfl)
theorem dX8_chance_80 : decode cX8_chance 80 = .ok (.lconst 0, 1) := dk_9 (dk_at dksX8_chance_3 9 rfl rfl)
theorem dX8_chance_81 : decode cX8_chance 81 = .ok (.ladd, 1) := dk_97 (dk_at dksX8_chance_3 10 rfl rfl)
theorem dX8_chance_82 : decode cX8_chance 82 = .ok (.lstore 6, 2) := dk_55 6 (dk_at dksX8_chance_3 11 rfl rfl)
theorem dX8_chance_84 : decode cX8_chance 84 = .ok (.iinc 8 1, 3) := dk_132 8 1 (dk_at dksX8_chance_3 13 rfl rfl)
theorem dX8_chance_87 : decode cX8_chance 87 = .ok (.goto (-33), 3) := dk_167 255 223 (dk_at dksX8_chance_3 16 rfl rfl)
theorem dX8_chance_90 : decode cX8_chance 90 = .ok (.lload 6, 2) := dk_22 6 (dk_at dksX8_chance_3 19 rfl rfl)
theorem dX8_chance_92 : decode cX8_chance 92 = .ok (.iload_n 2, 1) := dk_28 (dk_at dksX8_chance_3 21 rfl rfl)
theorem dX8_chance_93 : decode cX8_chance 93 = .ok (.i2l, 1) := dk_133 (dk_at dksX8_chance_3 22 rfl rfl)
theorem dX8_chance_94 : decode cX8_chance 94 = .ok (.iload 5, 2) := dk_21 5 (dk_at dksX8_chance_4 0 rfl rfl)
theorem dX8_chance_96 : decode cX8_chance 96 = .ok (.invokestatic 330, 3) := dk_184 1 74 (dk_at dksX8_chance_4 2 rfl rfl)
theorem dX8_chance_99 : decode cX8_chance 99 = .ok (.lreturn, 1) := dk_173 (dk_at dksX8_chance_4 5 rfl rfl)
abbrev cX8_image : ByteArray := prog_16_method_75_code
def yX8_image : MethodName := ⟨RX8, "image", "()I"⟩
def dkwX8_image_3 : List UInt8 := [181, 0, 65, 42, 42, 180, 0, 126, 181, 1, 101, 42, 42, 180, 0, 129, 181, 1, 104, 42, 180, 0, 88, 172]
abbrev dktX8_image_3 : List UInt8 := dkwX8_image_3 ++ []
def dkwX8_image_2 : List UInt8 := [180, 0, 62, 27, 42, 180, 0, 32, 27, 46, 79, 132, 1, 1, 167, 255, 235, 42, 42, 180, 0, 88]
abbrev dktX8_image_2 : List UInt8 := dkwX8_image_2 ++ dktX8_image_3
def dkwX8_image_1 : List UInt8 := [42, 180, 0, 26, 27, 46, 79, 132, 1, 1, 167, 255, 224, 3, 60, 27, 16, 10, 162, 0, 21, 42]
abbrev dktX8_image_1 : List UInt8 := dkwX8_image_1 ++ dktX8_image_2
def dkwX8_image_0 : List UInt8 := [3, 60, 27, 7, 162, 0, 33, 42, 180, 0, 56, 27, 42, 180, 0, 23, 27, 46, 79, 42, 180, 0, 59, 27]
abbrev dktX8_image_0 : List UInt8 := dkwX8_image_0 ++ dktX8_image_1
theorem dksX8_image_0 : cX8_image.data.toList.drop 0 = dktX8_image_0 := by decide +kernel
theorem dksX8_image_1 : cX8_image.data.toList.drop 24 = dktX8_image_1 := dk_seg dksX8_image_0 24 rfl rfl
theorem dksX8_image_2 : cX8_image.data.toList.drop 46 = dktX8_image_2 := dk_seg dksX8_image_1 22 rfl rfl
theorem dksX8_image_3 : cX8_image.data.toList.drop 68 = dktX8_image_3 := dk_seg dksX8_image_2 22 rfl rfl
theorem dX8_image_0 : decode cX8_image 0 = .ok (.iconst 0, 1) := dk_3 (dk_at dksX8_image_0 0 rfl rfl)
theorem dX8_image_1 : decode cX8_image 1 = .ok (.istore_n 1, 1) := dk_60 (dk_at dksX8_image_0 1 rfl rfl)
theorem dX8_image_2 : decode cX8_image 2 = .ok (.iload_n 1, 1) := dk_27 (dk_at dksX8_image_0 2 rfl rfl)
theorem dX8_image_3 : decode cX8_image 3 = .ok (.iconst 4, 1) := dk_7 (dk_at dksX8_image_0 3 rfl rfl)
theorem dX8_image_4 : decode cX8_image 4 = .ok (.if_icmp .ge 33, 3) := dk_162 0 33 (dk_at dksX8_image_0 4 rfl rfl)
theorem dX8_image_7 : decode cX8_image 7 = .ok (.aload_n 0, 1) := dk_42 (dk_at dksX8_image_0 7 rfl rfl)
theorem dX8_image_8 : decode cX8_image 8 = .ok (.getfield 56, 3) := dk_180 0 56 (dk_at dksX8_image_0 8 rfl rfl)
theorem dX8_image_11 : decode cX8_image 11 = .ok (.iload_n 1, 1) := dk_27 (dk_at dksX8_image_0 11 rfl rfl)
theorem dX8_image_12 : decode cX8_image 12 = .ok (.aload_n 0, 1) := dk_42 (dk_at dksX8_image_0 12 rfl rfl)
theorem dX8_image_13 : decode cX8_image 13 = .ok (.getfield 23, 3) := dk_180 0 23 (dk_at dksX8_image_0 13 rfl rfl)
theorem dX8_image_16 : decode cX8_image 16 = .ok (.iload_n 1, 1) := dk_27 (dk_at dksX8_image_0 16 rfl rfl)
theorem dX8_image_17 : decode cX8_image 17 = .ok (.iaload, 1) := dk_46 (dk_at dksX8_image_0 17 rfl rfl)
theorem dX8_image_18 : decode cX8_image 18 = .ok (.iastore, 1) := dk_79 (dk_at dksX8_image_0 18 rfl rfl)
theorem dX8_image_19 : decode cX8_image 19 = .ok (.aload_n 0, 1) := dk_42 (dk_at dksX8_image_0 19 rfl rfl)
theorem dX8_image_20 : decode cX8_image 20 = .ok (.getfield 59, 3) := dk_180 0 59 (dk_at dksX8_image_0 20 rfl rfl)
theorem dX8_image_23 : decode cX8_image 23 = .ok (.iload_n 1, 1) := dk_27 (dk_at dksX8_image_0 23 rfl rfl)
theorem dX8_image_24 : decode cX8_image 24 = .ok (.aload_n 0, 1) := dk_42 (dk_at dksX8_image_1 0 rfl rfl)
theorem dX8_image_25 : decode cX8_image 25 = .ok (.getfield 26, 3) := dk_180 0 26 (dk_at dksX8_image_1 1 rfl rfl)
theorem dX8_image_28 : decode cX8_image 28 = .ok (.iload_n 1, 1) := dk_27 (dk_at dksX8_image_1 4 rfl rfl)
theorem dX8_image_29 : decode cX8_image 29 = .ok (.iaload, 1) := dk_46 (dk_at dksX8_image_1 5 rfl rfl)
theorem dX8_image_30 : decode cX8_image 30 = .ok (.iastore, 1) := dk_79 (dk_at dksX8_image_1 6 rfl rfl)
theorem dX8_image_31 : decode cX8_image 31 = .ok (.iinc 1 1, 3) := dk_132 1 1 (dk_at dksX8_image_1 7 rfl rfl)
theorem dX8_image_34 : decode cX8_image 34 = .ok (.goto (-32), 3) := dk_167 255 224 (dk_at dksX8_image_1 10 rfl rfl)
theorem dX8_image_37 : decode cX8_image 37 = .ok (.iconst 0, 1) := dk_3 (dk_at dksX8_image_1 13 rfl rfl)
theorem dX8_image_38 : decode cX8_image 38 = .ok (.istore_n 1, 1) := dk_60 (dk_at dksX8_image_1 14 rfl rfl)
theorem dX8_image_39 : decode cX8_image 39 = .ok (.iload_n 1, 1) := dk_27 (dk_at dksX8_image_1 15 rfl rfl)
theorem dX8_image_40 : decode cX8_image 40 = .ok (.bipush 10, 2) := dk_16 10 (dk_at dksX8_image_1 16 rfl rfl)
theorem dX8_image_42 : decode cX8_image 42 = .ok (.if_icmp .ge 21, 3) := dk_162 0 21 (dk_at dksX8_image_1 18 rfl rfl)
theorem dX8_image_45 : decode cX8_image 45 = .ok (.aload_n 0, 1) := dk_42 (dk_at dksX8_image_1 21 rfl rfl)
theorem dX8_image_46 : decode cX8_image 46 = .ok (.getfield 62, 3) := dk_180 0 62 (dk_at dksX8_image_2 0 rfl rfl)
theorem dX8_image_49 : decode cX8_image 49 = .ok (.iload_n 1, 1) := dk_27 (dk_at dksX8_image_2 3 rfl rfl)
theorem dX8_image_50 : decode cX8_image 50 = .ok (.aload_n 0, 1) := dk_42 (dk_at dksX8_image_2 4 rfl rfl)
theorem dX8_image_51 : decode cX8_image 51 = .ok (.getfield 32, 3) := dk_180 0 32 (dk_at dksX8_image_2 5 rfl rfl)
theorem dX8_image_54 : decode cX8_image 54 = .ok (.iload_n 1, 1) := dk_27 (dk_at dksX8_image_2 8 rfl rfl)
theorem dX8_image_55 : decode cX8_image 55 = .ok (.iaload, 1) := dk_46 (dk_at dksX8_image_2 9 rfl rfl)
theorem dX8_image_56 : decode cX8_image 56 = .ok (.iastore, 1) := dk_79 (dk_at dksX8_image_2 10 rfl rfl)
theorem dX8_image_57 : decode cX8_image 57 = .ok (.iinc 1 1, 3) := dk_132 1 1 (dk_at dksX8_image_2 11 rfl rfl)
theorem dX8_image_60 : decode cX8_image 60 = .ok (.goto (-21), 3) := dk_167 255 235 (dk_at dksX8_image_2 14 rfl rfl)
theorem dX8_image_63 : decode cX8_image 63 = .ok (.aload_n 0, 1) := dk_42 (dk_at dksX8_image_2 17 rfl rfl)
theorem dX8_image_64 : decode cX8_image 64 = .ok (.aload_n 0, 1) := dk_42 (dk_at dksX8_image_2 18 rfl rfl)
theorem dX8_image_65 : decode cX8_image 65 = .ok (.getfield 88, 3) := dk_180 0 88 (dk_at dksX8_image_2 19 rfl rfl)
theorem dX8_image_68 : decode cX8_image 68 = .ok (.putfield 65, 3) := dk_181 0 65 (dk_at dksX8_image_3 0 rfl rfl)
theorem dX8_image_71 : decode cX8_image 71 = .ok (.aload_n 0, 1) := dk_42 (dk_at dksX8_image_3 3 rfl rfl)
theorem dX8_image_72 : decode cX8_image 72 = .ok (.aload_n 0, 1) := dk_42 (dk_at dksX8_image_3 4 rfl rfl)
theorem dX8_image_73 : decode cX8_image 73 = .ok (.getfield 126, 3) := dk_180 0 126 (dk_at dksX8_image_3 5 rfl rfl)
theorem dX8_image_76 : decode cX8_image 76 = .ok (.putfield 357, 3) := dk_181 1 101 (dk_at dksX8_image_3 8 rfl rfl)
theorem dX8_image_79 : decode cX8_image 79 = .ok (.aload_n 0, 1) := dk_42 (dk_at dksX8_image_3 11 rfl rfl)
theorem dX8_image_80 : decode cX8_image 80 = .ok (.aload_n 0, 1) := dk_42 (dk_at dksX8_image_3 12 rfl rfl)
theorem dX8_image_81 : decode cX8_image 81 = .ok (.getfield 129, 3) := dk_180 0 129 (dk_at dksX8_image_3 13 rfl rfl)
theorem dX8_image_84 : decode cX8_image 84 = .ok (.putfield 360, 3) := dk_181 1 104 (dk_at dksX8_image_3 16 rfl rfl)
theorem dX8_image_87 : decode cX8_image 87 = .ok (.aload_n 0, 1) := dk_42 (dk_at dksX8_image_3 19 rfl rfl)
theorem dX8_image_88 : decode cX8_image 88 = .ok (.getfield 88, 3) := dk_180 0 88 (dk_at dksX8_image_3 20 rfl rfl)
theorem dX8_image_91 : decode cX8_image 91 = .ok (.ireturn, 1) := dk_172 (dk_at dksX8_image_3 23 rfl rfl)
abbrev cX8_back : ByteArray := prog_16_method_76_code
def yX8_back : MethodName := ⟨RX8, "back", "()I"⟩
def dkwX8_back_4 : List UInt8 := [181, 0, 129, 42, 180, 0, 88, 172]
abbrev dktX8_back_4 : List UInt8 := dkwX8_back_4 ++ []
def dkwX8_back_3 : List UInt8 := [167, 255, 235, 42, 42, 180, 0, 65, 181, 0, 88, 42, 42, 180, 1, 101, 181, 0, 126, 42, 42, 180, 1, 104]
abbrev dktX8_back_3 : List UInt8 := dkwX8_back_3 ++ dktX8_back_4
def dkwX8_back_2 : List UInt8 := [3, 60, 27, 16, 10, 162, 0, 21, 42, 180, 0, 32, 27, 42, 180, 0, 62, 27, 46, 79, 132, 1, 1]
abbrev dktX8_back_2 : List UInt8 := dkwX8_back_2 ++ dktX8_back_3
def dkwX8_back_1 : List UInt8 := [180, 0, 56, 27, 46, 79, 42, 180, 0, 26, 27, 42, 180, 0, 59, 27, 46, 79, 132, 1, 1, 167, 255, 224]
abbrev dktX8_back_1 : List UInt8 := dkwX8_back_1 ++ dktX8_back_2
def dkwX8_back_0 : List UInt8 := [42, 180, 0, 65, 2, 160, 0, 6, 16, 253, 172, 3, 60, 27, 7, 162, 0, 33, 42, 180, 0, 23, 27, 42]
abbrev dktX8_back_0 : List UInt8 := dkwX8_back_0 ++ dktX8_back_1
theorem dksX8_back_0 : cX8_back.data.toList.drop 0 = dktX8_back_0 := by decide +kernel
theorem dksX8_back_1 : cX8_back.data.toList.drop 24 = dktX8_back_1 := dk_seg dksX8_back_0 24 rfl rfl
theorem dksX8_back_2 : cX8_back.data.toList.drop 48 = dktX8_back_2 := dk_seg dksX8_back_1 24 rfl rfl
theorem dksX8_back_3 : cX8_back.data.toList.drop 71 = dktX8_back_3 := dk_seg dksX8_back_2 23 rfl rfl
theorem dksX8_back_4 : cX8_back.data.toList.drop 95 = dktX8_back_4 := dk_seg dksX8_back_3 24 rfl rfl
theorem dX8_back_0 : decode cX8_back 0 = .ok (.aload_n 0, 1) := dk_42 (dk_at dksX8_back_0 0 rfl rfl)
theorem dX8_back_1 : decode cX8_back 1 = .ok (.getfield 65, 3) := dk_180 0 65 (dk_at dksX8_back_0 1 rfl rfl)
theorem dX8_back_4 : decode cX8_back 4 = .ok (.iconst (-1), 1) := dk_2 (dk_at dksX8_back_0 4 rfl rfl)
theorem dX8_back_5 : decode cX8_back 5 = .ok (.if_icmp .ne 6, 3) := dk_160 0 6 (dk_at dksX8_back_0 5 rfl rfl)
theorem dX8_back_8 : decode cX8_back 8 = .ok (.bipush (-3), 2) := dk_16 253 (dk_at dksX8_back_0 8 rfl rfl)
theorem dX8_back_10 : decode cX8_back 10 = .ok (.ireturn, 1) := dk_172 (dk_at dksX8_back_0 10 rfl rfl)
theorem dX8_back_11 : decode cX8_back 11 = .ok (.iconst 0, 1) := dk_3 (dk_at dksX8_back_0 11 rfl rfl)
theorem dX8_back_12 : decode cX8_back 12 = .ok (.istore_n 1, 1) := dk_60 (dk_at dksX8_back_0 12 rfl rfl)
theorem dX8_back_13 : decode cX8_back 13 = .ok (.iload_n 1, 1) := dk_27 (dk_at dksX8_back_0 13 rfl rfl)
theorem dX8_back_14 : decode cX8_back 14 = .ok (.iconst 4, 1) := dk_7 (dk_at dksX8_back_0 14 rfl rfl)
theorem dX8_back_15 : decode cX8_back 15 = .ok (.if_icmp .ge 33, 3) := dk_162 0 33 (dk_at dksX8_back_0 15 rfl rfl)
theorem dX8_back_18 : decode cX8_back 18 = .ok (.aload_n 0, 1) := dk_42 (dk_at dksX8_back_0 18 rfl rfl)
theorem dX8_back_19 : decode cX8_back 19 = .ok (.getfield 23, 3) := dk_180 0 23 (dk_at dksX8_back_0 19 rfl rfl)
theorem dX8_back_22 : decode cX8_back 22 = .ok (.iload_n 1, 1) := dk_27 (dk_at dksX8_back_0 22 rfl rfl)
theorem dX8_back_23 : decode cX8_back 23 = .ok (.aload_n 0, 1) := dk_42 (dk_at dksX8_back_0 23 rfl rfl)
theorem dX8_back_24 : decode cX8_back 24 = .ok (.getfield 56, 3) := dk_180 0 56 (dk_at dksX8_back_1 0 rfl rfl)
theorem dX8_back_27 : decode cX8_back 27 = .ok (.iload_n 1, 1) := dk_27 (dk_at dksX8_back_1 3 rfl rfl)
theorem dX8_back_28 : decode cX8_back 28 = .ok (.iaload, 1) := dk_46 (dk_at dksX8_back_1 4 rfl rfl)
theorem dX8_back_29 : decode cX8_back 29 = .ok (.iastore, 1) := dk_79 (dk_at dksX8_back_1 5 rfl rfl)
theorem dX8_back_30 : decode cX8_back 30 = .ok (.aload_n 0, 1) := dk_42 (dk_at dksX8_back_1 6 rfl rfl)
theorem dX8_back_31 : decode cX8_back 31 = .ok (.getfield 26, 3) := dk_180 0 26 (dk_at dksX8_back_1 7 rfl rfl)
theorem dX8_back_34 : decode cX8_back 34 = .ok (.iload_n 1, 1) := dk_27 (dk_at dksX8_back_1 10 rfl rfl)
theorem dX8_back_35 : decode cX8_back 35 = .ok (.aload_n 0, 1) := dk_42 (dk_at dksX8_back_1 11 rfl rfl)
theorem dX8_back_36 : decode cX8_back 36 = .ok (.getfield 59, 3) := dk_180 0 59 (dk_at dksX8_back_1 12 rfl rfl)
theorem dX8_back_39 : decode cX8_back 39 = .ok (.iload_n 1, 1) := dk_27 (dk_at dksX8_back_1 15 rfl rfl)
theorem dX8_back_40 : decode cX8_back 40 = .ok (.iaload, 1) := dk_46 (dk_at dksX8_back_1 16 rfl rfl)
theorem dX8_back_41 : decode cX8_back 41 = .ok (.iastore, 1) := dk_79 (dk_at dksX8_back_1 17 rfl rfl)
theorem dX8_back_42 : decode cX8_back 42 = .ok (.iinc 1 1, 3) := dk_132 1 1 (dk_at dksX8_back_1 18 rfl rfl)
theorem dX8_back_45 : decode cX8_back 45 = .ok (.goto (-32), 3) := dk_167 255 224 (dk_at dksX8_back_1 21 rfl rfl)
theorem dX8_back_48 : decode cX8_back 48 = .ok (.iconst 0, 1) := dk_3 (dk_at dksX8_back_2 0 rfl rfl)
theorem dX8_back_49 : decode cX8_back 49 = .ok (.istore_n 1, 1) := dk_60 (dk_at dksX8_back_2 1 rfl rfl)
theorem dX8_back_50 : decode cX8_back 50 = .ok (.iload_n 1, 1) := dk_27 (dk_at dksX8_back_2 2 rfl rfl)
theorem dX8_back_51 : decode cX8_back 51 = .ok (.bipush 10, 2) := dk_16 10 (dk_at dksX8_back_2 3 rfl rfl)
theorem dX8_back_53 : decode cX8_back 53 = .ok (.if_icmp .ge 21, 3) := dk_162 0 21 (dk_at dksX8_back_2 5 rfl rfl)
theorem dX8_back_56 : decode cX8_back 56 = .ok (.aload_n 0, 1) := dk_42 (dk_at dksX8_back_2 8 rfl rfl)
theorem dX8_back_57 : decode cX8_back 57 = .ok (.getfield 32, 3) := dk_180 0 32 (dk_at dksX8_back_2 9 rfl rfl)
theorem dX8_back_60 : decode cX8_back 60 = .ok (.iload_n 1, 1) := dk_27 (dk_at dksX8_back_2 12 rfl rfl)
theorem dX8_back_61 : decode cX8_back 61 = .ok (.aload_n 0, 1) := dk_42 (dk_at dksX8_back_2 13 rfl rfl)
theorem dX8_back_62 : decode cX8_back 62 = .ok (.getfield 62, 3) := dk_180 0 62 (dk_at dksX8_back_2 14 rfl rfl)
theorem dX8_back_65 : decode cX8_back 65 = .ok (.iload_n 1, 1) := dk_27 (dk_at dksX8_back_2 17 rfl rfl)
theorem dX8_back_66 : decode cX8_back 66 = .ok (.iaload, 1) := dk_46 (dk_at dksX8_back_2 18 rfl rfl)
theorem dX8_back_67 : decode cX8_back 67 = .ok (.iastore, 1) := dk_79 (dk_at dksX8_back_2 19 rfl rfl)
theorem dX8_back_68 : decode cX8_back 68 = .ok (.iinc 1 1, 3) := dk_132 1 1 (dk_at dksX8_back_2 20 rfl rfl)
theorem dX8_back_71 : decode cX8_back 71 = .ok (.goto (-21), 3) := dk_167 255 235 (dk_at dksX8_back_3 0 rfl rfl)
theorem dX8_back_74 : decode cX8_back 74 = .ok (.aload_n 0, 1) := dk_42 (dk_at dksX8_back_3 3 rfl rfl)
theorem dX8_back_75 : decode cX8_back 75 = .ok (.aload_n 0, 1) := dk_42 (dk_at dksX8_back_3 4 rfl rfl)
theorem dX8_back_76 : decode cX8_back 76 = .ok (.getfield 65, 3) := dk_180 0 65 (dk_at dksX8_back_3 5 rfl rfl)
theorem dX8_back_79 : decode cX8_back 79 = .ok (.putfield 88, 3) := dk_181 0 88 (dk_at dksX8_back_3 8 rfl rfl)
theorem dX8_back_82 : decode cX8_back 82 = .ok (.aload_n 0, 1) := dk_42 (dk_at dksX8_back_3 11 rfl rfl)
theorem dX8_back_83 : decode cX8_back 83 = .ok (.aload_n 0, 1) := dk_42 (dk_at dksX8_back_3 12 rfl rfl)
theorem dX8_back_84 : decode cX8_back 84 = .ok (.getfield 357, 3) := dk_180 1 101 (dk_at dksX8_back_3 13 rfl rfl)
theorem dX8_back_87 : decode cX8_back 87 = .ok (.putfield 126, 3) := dk_181 0 126 (dk_at dksX8_back_3 16 rfl rfl)
theorem dX8_back_90 : decode cX8_back 90 = .ok (.aload_n 0, 1) := dk_42 (dk_at dksX8_back_3 19 rfl rfl)
theorem dX8_back_91 : decode cX8_back 91 = .ok (.aload_n 0, 1) := dk_42 (dk_at dksX8_back_3 20 rfl rfl)
theorem dX8_back_92 : decode cX8_back 92 = .ok (.getfield 360, 3) := dk_180 1 104 (dk_at dksX8_back_3 21 rfl rfl)
theorem dX8_back_95 : decode cX8_back 95 = .ok (.putfield 129, 3) := dk_181 0 129 (dk_at dksX8_back_4 0 rfl rfl)
theorem dX8_back_98 : decode cX8_back 98 = .ok (.aload_n 0, 1) := dk_42 (dk_at dksX8_back_4 3 rfl rfl)
theorem dX8_back_99 : decode cX8_back 99 = .ok (.getfield 88, 3) := dk_180 0 88 (dk_at dksX8_back_4 4 rfl rfl)
theorem dX8_back_102 : decode cX8_back 102 = .ok (.ireturn, 1) := dk_172 (dk_at dksX8_back_4 7 rfl rfl)
abbrev cX8_count : ByteArray := prog_16_method_77_code
def yX8_count : MethodName := ⟨RX8, "count", "(I)I"⟩
def dkwX8_count_3 : List UInt8 := [167, 0, 7, 42, 180, 0, 129, 172]
abbrev dktX8_count_3 : List UInt8 := dkwX8_count_3 ++ []
def dkwX8_count_2 : List UInt8 := [167, 0, 31, 27, 6, 160, 0, 10, 42, 180, 0, 85, 167, 0, 19, 27, 7, 160, 0, 10, 42, 180, 0, 152]
abbrev dktX8_count_2 : List UInt8 := dkwX8_count_2 ++ dktX8_count_3
def dkwX8_count_1 : List UInt8 := [167, 0, 55, 27, 4, 160, 0, 10, 42, 182, 1, 38, 167, 0, 43, 27, 5, 160, 0, 10, 42, 180, 0, 126]
abbrev dktX8_count_1 : List UInt8 := dkwX8_count_1 ++ dktX8_count_2
def dkwX8_count_0 : List UInt8 := [27, 133, 9, 20, 0, 132, 184, 0, 91, 154, 0, 6, 16, 254, 172, 27, 154, 0, 10, 42, 180, 0, 88]
abbrev dktX8_count_0 : List UInt8 := dkwX8_count_0 ++ dktX8_count_1
theorem dksX8_count_0 : cX8_count.data.toList.drop 0 = dktX8_count_0 := by decide +kernel
theorem dksX8_count_1 : cX8_count.data.toList.drop 23 = dktX8_count_1 := dk_seg dksX8_count_0 23 rfl rfl
theorem dksX8_count_2 : cX8_count.data.toList.drop 47 = dktX8_count_2 := dk_seg dksX8_count_1 24 rfl rfl
theorem dksX8_count_3 : cX8_count.data.toList.drop 71 = dktX8_count_3 := dk_seg dksX8_count_2 24 rfl rfl
theorem dX8_count_0 : decode cX8_count 0 = .ok (.iload_n 1, 1) := dk_27 (dk_at dksX8_count_0 0 rfl rfl)
theorem dX8_count_1 : decode cX8_count 1 = .ok (.i2l, 1) := dk_133 (dk_at dksX8_count_0 1 rfl rfl)
theorem dX8_count_2 : decode cX8_count 2 = .ok (.lconst 0, 1) := dk_9 (dk_at dksX8_count_0 2 rfl rfl)
theorem dX8_count_3 : decode cX8_count 3 = .ok (.ldc2_w 132, 3) := dk_20 0 132 (dk_at dksX8_count_0 3 rfl rfl)
theorem dX8_count_6 : decode cX8_count 6 = .ok (.invokestatic 91, 3) := dk_184 0 91 (dk_at dksX8_count_0 6 rfl rfl)
theorem dX8_count_9 : decode cX8_count 9 = .ok (.ifCond .ne 6, 3) := dk_154 0 6 (dk_at dksX8_count_0 9 rfl rfl)
theorem dX8_count_12 : decode cX8_count 12 = .ok (.bipush (-2), 2) := dk_16 254 (dk_at dksX8_count_0 12 rfl rfl)
theorem dX8_count_14 : decode cX8_count 14 = .ok (.ireturn, 1) := dk_172 (dk_at dksX8_count_0 14 rfl rfl)
theorem dX8_count_15 : decode cX8_count 15 = .ok (.iload_n 1, 1) := dk_27 (dk_at dksX8_count_0 15 rfl rfl)
theorem dX8_count_16 : decode cX8_count 16 = .ok (.ifCond .ne 10, 3) := dk_154 0 10 (dk_at dksX8_count_0 16 rfl rfl)
theorem dX8_count_19 : decode cX8_count 19 = .ok (.aload_n 0, 1) := dk_42 (dk_at dksX8_count_0 19 rfl rfl)
theorem dX8_count_20 : decode cX8_count 20 = .ok (.getfield 88, 3) := dk_180 0 88 (dk_at dksX8_count_0 20 rfl rfl)
theorem dX8_count_23 : decode cX8_count 23 = .ok (.goto 55, 3) := dk_167 0 55 (dk_at dksX8_count_1 0 rfl rfl)
theorem dX8_count_26 : decode cX8_count 26 = .ok (.iload_n 1, 1) := dk_27 (dk_at dksX8_count_1 3 rfl rfl)
theorem dX8_count_27 : decode cX8_count 27 = .ok (.iconst 1, 1) := dk_4 (dk_at dksX8_count_1 4 rfl rfl)
theorem dX8_count_28 : decode cX8_count 28 = .ok (.if_icmp .ne 10, 3) := dk_160 0 10 (dk_at dksX8_count_1 5 rfl rfl)
theorem dX8_count_31 : decode cX8_count 31 = .ok (.aload_n 0, 1) := dk_42 (dk_at dksX8_count_1 8 rfl rfl)
theorem dX8_count_32 : decode cX8_count 32 = .ok (.invokevirtual 294, 3) := dk_182 1 38 (dk_at dksX8_count_1 9 rfl rfl)
theorem dX8_count_35 : decode cX8_count 35 = .ok (.goto 43, 3) := dk_167 0 43 (dk_at dksX8_count_1 12 rfl rfl)
theorem dX8_count_38 : decode cX8_count 38 = .ok (.iload_n 1, 1) := dk_27 (dk_at dksX8_count_1 15 rfl rfl)
theorem dX8_count_39 : decode cX8_count 39 = .ok (.iconst 2, 1) := dk_5 (dk_at dksX8_count_1 16 rfl rfl)
theorem dX8_count_40 : decode cX8_count 40 = .ok (.if_icmp .ne 10, 3) := dk_160 0 10 (dk_at dksX8_count_1 17 rfl rfl)
theorem dX8_count_43 : decode cX8_count 43 = .ok (.aload_n 0, 1) := dk_42 (dk_at dksX8_count_1 20 rfl rfl)
theorem dX8_count_44 : decode cX8_count 44 = .ok (.getfield 126, 3) := dk_180 0 126 (dk_at dksX8_count_1 21 rfl rfl)
theorem dX8_count_47 : decode cX8_count 47 = .ok (.goto 31, 3) := dk_167 0 31 (dk_at dksX8_count_2 0 rfl rfl)
theorem dX8_count_50 : decode cX8_count 50 = .ok (.iload_n 1, 1) := dk_27 (dk_at dksX8_count_2 3 rfl rfl)
theorem dX8_count_51 : decode cX8_count 51 = .ok (.iconst 3, 1) := dk_6 (dk_at dksX8_count_2 4 rfl rfl)
theorem dX8_count_52 : decode cX8_count 52 = .ok (.if_icmp .ne 10, 3) := dk_160 0 10 (dk_at dksX8_count_2 5 rfl rfl)
theorem dX8_count_55 : decode cX8_count 55 = .ok (.aload_n 0, 1) := dk_42 (dk_at dksX8_count_2 8 rfl rfl)
theorem dX8_count_56 : decode cX8_count 56 = .ok (.getfield 85, 3) := dk_180 0 85 (dk_at dksX8_count_2 9 rfl rfl)
theorem dX8_count_59 : decode cX8_count 59 = .ok (.goto 19, 3) := dk_167 0 19 (dk_at dksX8_count_2 12 rfl rfl)
theorem dX8_count_62 : decode cX8_count 62 = .ok (.iload_n 1, 1) := dk_27 (dk_at dksX8_count_2 15 rfl rfl)
theorem dX8_count_63 : decode cX8_count 63 = .ok (.iconst 4, 1) := dk_7 (dk_at dksX8_count_2 16 rfl rfl)
theorem dX8_count_64 : decode cX8_count 64 = .ok (.if_icmp .ne 10, 3) := dk_160 0 10 (dk_at dksX8_count_2 17 rfl rfl)
theorem dX8_count_67 : decode cX8_count 67 = .ok (.aload_n 0, 1) := dk_42 (dk_at dksX8_count_2 20 rfl rfl)
theorem dX8_count_68 : decode cX8_count 68 = .ok (.getfield 152, 3) := dk_180 0 152 (dk_at dksX8_count_2 21 rfl rfl)
theorem dX8_count_71 : decode cX8_count 71 = .ok (.goto 7, 3) := dk_167 0 7 (dk_at dksX8_count_3 0 rfl rfl)
theorem dX8_count_74 : decode cX8_count 74 = .ok (.aload_n 0, 1) := dk_42 (dk_at dksX8_count_3 3 rfl rfl)
theorem dX8_count_75 : decode cX8_count 75 = .ok (.getfield 129, 3) := dk_180 0 129 (dk_at dksX8_count_3 4 rfl rfl)
theorem dX8_count_78 : decode cX8_count 78 = .ok (.ireturn, 1) := dk_172 (dk_at dksX8_count_3 7 rfl rfl)
abbrev cX8_cell : ByteArray := prog_16_method_80_code
def yX8_cell : MethodName := ⟨RX8, "cell", "(III)I"⟩
def dkwX8_cell_3 : List UInt8 := [27, 46, 4, 160, 0, 8, 29, 147, 167, 0, 4, 29, 79, 4, 172]
abbrev dktX8_cell_3 : List UInt8 := dkwX8_cell_3 ++ []
def dkwX8_cell_2 : List UInt8 := [16, 40, 27, 104, 28, 96, 42, 180, 0, 72, 27, 46, 154, 0, 8, 29, 145, 167, 0, 19, 42, 180, 0, 72]
abbrev dktX8_cell_2 : List UInt8 := dkwX8_cell_2 ++ dktX8_cell_3
def dkwX8_cell_1 : List UInt8 := [9, 42, 180, 0, 75, 27, 46, 4, 100, 133, 184, 0, 91, 154, 0, 6, 16, 244, 172, 42, 180, 0, 78]
abbrev dktX8_cell_1 : List UInt8 := dkwX8_cell_1 ++ dktX8_cell_2
def dkwX8_cell_0 : List UInt8 := [27, 184, 1, 83, 154, 0, 6, 16, 254, 172, 42, 180, 0, 68, 27, 51, 154, 0, 6, 16, 245, 172, 28, 133]
abbrev dktX8_cell_0 : List UInt8 := dkwX8_cell_0 ++ dktX8_cell_1
theorem dksX8_cell_0 : cX8_cell.data.toList.drop 0 = dktX8_cell_0 := by decide +kernel
theorem dksX8_cell_1 : cX8_cell.data.toList.drop 24 = dktX8_cell_1 := dk_seg dksX8_cell_0 24 rfl rfl
theorem dksX8_cell_2 : cX8_cell.data.toList.drop 47 = dktX8_cell_2 := dk_seg dksX8_cell_1 23 rfl rfl
theorem dksX8_cell_3 : cX8_cell.data.toList.drop 71 = dktX8_cell_3 := dk_seg dksX8_cell_2 24 rfl rfl
theorem dX8_cell_0 : decode cX8_cell 0 = .ok (.iload_n 1, 1) := dk_27 (dk_at dksX8_cell_0 0 rfl rfl)
theorem dX8_cell_1 : decode cX8_cell 1 = .ok (.invokestatic 339, 3) := dk_184 1 83 (dk_at dksX8_cell_0 1 rfl rfl)
theorem dX8_cell_4 : decode cX8_cell 4 = .ok (.ifCond .ne 6, 3) := dk_154 0 6 (dk_at dksX8_cell_0 4 rfl rfl)
theorem dX8_cell_7 : decode cX8_cell 7 = .ok (.bipush (-2), 2) := dk_16 254 (dk_at dksX8_cell_0 7 rfl rfl)
theorem dX8_cell_9 : decode cX8_cell 9 = .ok (.ireturn, 1) := dk_172 (dk_at dksX8_cell_0 9 rfl rfl)
theorem dX8_cell_10 : decode cX8_cell 10 = .ok (.aload_n 0, 1) := dk_42 (dk_at dksX8_cell_0 10 rfl rfl)
theorem dX8_cell_11 : decode cX8_cell 11 = .ok (.getfield 68, 3) := dk_180 0 68 (dk_at dksX8_cell_0 11 rfl rfl)
theorem dX8_cell_14 : decode cX8_cell 14 = .ok (.iload_n 1, 1) := dk_27 (dk_at dksX8_cell_0 14 rfl rfl)
theorem dX8_cell_15 : decode cX8_cell 15 = .ok (.baload, 1) := dk_51 (dk_at dksX8_cell_0 15 rfl rfl)
theorem dX8_cell_16 : decode cX8_cell 16 = .ok (.ifCond .ne 6, 3) := dk_154 0 6 (dk_at dksX8_cell_0 16 rfl rfl)
theorem dX8_cell_19 : decode cX8_cell 19 = .ok (.bipush (-11), 2) := dk_16 245 (dk_at dksX8_cell_0 19 rfl rfl)
theorem dX8_cell_21 : decode cX8_cell 21 = .ok (.ireturn, 1) := dk_172 (dk_at dksX8_cell_0 21 rfl rfl)
theorem dX8_cell_22 : decode cX8_cell 22 = .ok (.iload_n 2, 1) := dk_28 (dk_at dksX8_cell_0 22 rfl rfl)
theorem dX8_cell_23 : decode cX8_cell 23 = .ok (.i2l, 1) := dk_133 (dk_at dksX8_cell_0 23 rfl rfl)
theorem dX8_cell_24 : decode cX8_cell 24 = .ok (.lconst 0, 1) := dk_9 (dk_at dksX8_cell_1 0 rfl rfl)
theorem dX8_cell_25 : decode cX8_cell 25 = .ok (.aload_n 0, 1) := dk_42 (dk_at dksX8_cell_1 1 rfl rfl)
theorem dX8_cell_26 : decode cX8_cell 26 = .ok (.getfield 75, 3) := dk_180 0 75 (dk_at dksX8_cell_1 2 rfl rfl)
theorem dX8_cell_29 : decode cX8_cell 29 = .ok (.iload_n 1, 1) := dk_27 (dk_at dksX8_cell_1 5 rfl rfl)
theorem dX8_cell_30 : decode cX8_cell 30 = .ok (.iaload, 1) := dk_46 (dk_at dksX8_cell_1 6 rfl rfl)
theorem dX8_cell_31 : decode cX8_cell 31 = .ok (.iconst 1, 1) := dk_4 (dk_at dksX8_cell_1 7 rfl rfl)
theorem dX8_cell_32 : decode cX8_cell 32 = .ok (.isub, 1) := dk_100 (dk_at dksX8_cell_1 8 rfl rfl)
theorem dX8_cell_33 : decode cX8_cell 33 = .ok (.i2l, 1) := dk_133 (dk_at dksX8_cell_1 9 rfl rfl)
theorem dX8_cell_34 : decode cX8_cell 34 = .ok (.invokestatic 91, 3) := dk_184 0 91 (dk_at dksX8_cell_1 10 rfl rfl)
theorem dX8_cell_37 : decode cX8_cell 37 = .ok (.ifCond .ne 6, 3) := dk_154 0 6 (dk_at dksX8_cell_1 13 rfl rfl)
theorem dX8_cell_40 : decode cX8_cell 40 = .ok (.bipush (-12), 2) := dk_16 244 (dk_at dksX8_cell_1 16 rfl rfl)
theorem dX8_cell_42 : decode cX8_cell 42 = .ok (.ireturn, 1) := dk_172 (dk_at dksX8_cell_1 18 rfl rfl)
theorem dX8_cell_43 : decode cX8_cell 43 = .ok (.aload_n 0, 1) := dk_42 (dk_at dksX8_cell_1 19 rfl rfl)
theorem dX8_cell_44 : decode cX8_cell 44 = .ok (.getfield 78, 3) := dk_180 0 78 (dk_at dksX8_cell_1 20 rfl rfl)
theorem dX8_cell_47 : decode cX8_cell 47 = .ok (.bipush 40, 2) := dk_16 40 (dk_at dksX8_cell_2 0 rfl rfl)
theorem dX8_cell_49 : decode cX8_cell 49 = .ok (.iload_n 1, 1) := dk_27 (dk_at dksX8_cell_2 2 rfl rfl)
theorem dX8_cell_50 : decode cX8_cell 50 = .ok (.imul, 1) := dk_104 (dk_at dksX8_cell_2 3 rfl rfl)
theorem dX8_cell_51 : decode cX8_cell 51 = .ok (.iload_n 2, 1) := dk_28 (dk_at dksX8_cell_2 4 rfl rfl)
theorem dX8_cell_52 : decode cX8_cell 52 = .ok (.iadd, 1) := dk_96 (dk_at dksX8_cell_2 5 rfl rfl)
theorem dX8_cell_53 : decode cX8_cell 53 = .ok (.aload_n 0, 1) := dk_42 (dk_at dksX8_cell_2 6 rfl rfl)
theorem dX8_cell_54 : decode cX8_cell 54 = .ok (.getfield 72, 3) := dk_180 0 72 (dk_at dksX8_cell_2 7 rfl rfl)
theorem dX8_cell_57 : decode cX8_cell 57 = .ok (.iload_n 1, 1) := dk_27 (dk_at dksX8_cell_2 10 rfl rfl)
theorem dX8_cell_58 : decode cX8_cell 58 = .ok (.iaload, 1) := dk_46 (dk_at dksX8_cell_2 11 rfl rfl)
theorem dX8_cell_59 : decode cX8_cell 59 = .ok (.ifCond .ne 8, 3) := dk_154 0 8 (dk_at dksX8_cell_2 12 rfl rfl)
theorem dX8_cell_62 : decode cX8_cell 62 = .ok (.iload_n 3, 1) := dk_29 (dk_at dksX8_cell_2 15 rfl rfl)
theorem dX8_cell_63 : decode cX8_cell 63 = .ok (.i2b, 1) := dk_145 (dk_at dksX8_cell_2 16 rfl rfl)
theorem dX8_cell_64 : decode cX8_cell 64 = .ok (.goto 19, 3) := dk_167 0 19 (dk_at dksX8_cell_2 17 rfl rfl)
theorem dX8_cell_67 : decode cX8_cell 67 = .ok (.aload_n 0, 1) := dk_42 (dk_at dksX8_cell_2 20 rfl rfl)
theorem dX8_cell_68 : decode cX8_cell 68 = .ok (.getfield 72, 3) := dk_180 0 72 (dk_at dksX8_cell_2 21 rfl rfl)
theorem dX8_cell_71 : decode cX8_cell 71 = .ok (.iload_n 1, 1) := dk_27 (dk_at dksX8_cell_3 0 rfl rfl)
theorem dX8_cell_72 : decode cX8_cell 72 = .ok (.iaload, 1) := dk_46 (dk_at dksX8_cell_3 1 rfl rfl)
theorem dX8_cell_73 : decode cX8_cell 73 = .ok (.iconst 1, 1) := dk_4 (dk_at dksX8_cell_3 2 rfl rfl)
theorem dX8_cell_74 : decode cX8_cell 74 = .ok (.if_icmp .ne 8, 3) := dk_160 0 8 (dk_at dksX8_cell_3 3 rfl rfl)
theorem dX8_cell_77 : decode cX8_cell 77 = .ok (.iload_n 3, 1) := dk_29 (dk_at dksX8_cell_3 6 rfl rfl)
theorem dX8_cell_78 : decode cX8_cell 78 = .ok (.i2s, 1) := dk_147 (dk_at dksX8_cell_3 7 rfl rfl)
theorem dX8_cell_79 : decode cX8_cell 79 = .ok (.goto 4, 3) := dk_167 0 4 (dk_at dksX8_cell_3 8 rfl rfl)
theorem dX8_cell_82 : decode cX8_cell 82 = .ok (.iload_n 3, 1) := dk_29 (dk_at dksX8_cell_3 11 rfl rfl)
theorem dX8_cell_83 : decode cX8_cell 83 = .ok (.iastore, 1) := dk_79 (dk_at dksX8_cell_3 12 rfl rfl)
theorem dX8_cell_84 : decode cX8_cell 84 = .ok (.iconst 1, 1) := dk_4 (dk_at dksX8_cell_3 13 rfl rfl)
theorem dX8_cell_85 : decode cX8_cell 85 = .ok (.ireturn, 1) := dk_172 (dk_at dksX8_cell_3 14 rfl rfl)
abbrev cX8_copy : ByteArray := prog_16_method_81_code
def yX8_copy : MethodName := ⟨RX8, "copy", "(IIIII)I"⟩
def dkwX8_copy_7 : List UInt8 := [180, 0, 78, 16, 40, 27, 104, 28, 96, 21, 8, 96, 46, 79, 132, 7, 1, 167, 255, 198, 21, 5, 172]
abbrev dktX8_copy_7 : List UInt8 := dkwX8_copy_7 ++ []
def dkwX8_copy_6 : List UInt8 := [100, 167, 0, 5, 21, 7, 54, 8, 42, 180, 0, 78, 16, 40, 29, 104, 21, 4, 96, 21, 8, 96, 42]
abbrev dktX8_copy_6 : List UInt8 := dkwX8_copy_6 ++ dktX8_copy_7
def dkwX8_copy_5 : List UInt8 := [3, 54, 6, 3, 54, 7, 21, 7, 21, 5, 162, 0, 57, 21, 6, 153, 0, 13, 21, 5, 4, 100, 21, 7]
abbrev dktX8_copy_5 : List UInt8 := dkwX8_copy_5 ++ dktX8_copy_6
def dkwX8_copy_4 : List UInt8 := [21, 5, 100, 164, 0, 6, 16, 244, 172, 27, 29, 160, 0, 13, 28, 21, 4, 162, 0, 7, 4, 167, 0, 4]
abbrev dktX8_copy_4 : List UInt8 := dkwX8_copy_4 ++ dktX8_copy_5
def dkwX8_copy_3 : List UInt8 := [155, 0, 30, 28, 42, 180, 0, 75, 27, 46, 21, 5, 100, 163, 0, 17, 21, 4, 42, 180, 0, 75, 29, 46]
abbrev dktX8_copy_3 : List UInt8 := dkwX8_copy_3 ++ dktX8_copy_4
def dkwX8_copy_2 : List UInt8 := [180, 0, 72, 29, 46, 159, 0, 6, 16, 243, 172, 21, 5, 155, 0, 39, 28, 155, 0, 35, 21, 4]
abbrev dktX8_copy_2 : List UInt8 := dkwX8_copy_2 ++ dktX8_copy_3
def dkwX8_copy_1 : List UInt8 := [153, 0, 12, 42, 180, 0, 68, 29, 51, 154, 0, 6, 16, 245, 172, 42, 180, 0, 72, 27, 46, 42]
abbrev dktX8_copy_1 : List UInt8 := dkwX8_copy_1 ++ dktX8_copy_2
def dkwX8_copy_0 : List UInt8 := [27, 184, 1, 83, 153, 0, 10, 29, 184, 1, 83, 154, 0, 6, 16, 254, 172, 42, 180, 0, 68, 27, 51]
abbrev dktX8_copy_0 : List UInt8 := dkwX8_copy_0 ++ dktX8_copy_1
theorem dksX8_copy_0 : cX8_copy.data.toList.drop 0 = dktX8_copy_0 := by decide +kernel
theorem dksX8_copy_1 : cX8_copy.data.toList.drop 23 = dktX8_copy_1 := dk_seg dksX8_copy_0 23 rfl rfl
theorem dksX8_copy_2 : cX8_copy.data.toList.drop 45 = dktX8_copy_2 := dk_seg dksX8_copy_1 22 rfl rfl
theorem dksX8_copy_3 : cX8_copy.data.toList.drop 67 = dktX8_copy_3 := dk_seg dksX8_copy_2 22 rfl rfl
theorem dksX8_copy_4 : cX8_copy.data.toList.drop 91 = dktX8_copy_4 := dk_seg dksX8_copy_3 24 rfl rfl
theorem dksX8_copy_5 : cX8_copy.data.toList.drop 115 = dktX8_copy_5 := dk_seg dksX8_copy_4 24 rfl rfl
theorem dksX8_copy_6 : cX8_copy.data.toList.drop 139 = dktX8_copy_6 := dk_seg dksX8_copy_5 24 rfl rfl
theorem dksX8_copy_7 : cX8_copy.data.toList.drop 162 = dktX8_copy_7 := dk_seg dksX8_copy_6 23 rfl rfl
theorem dX8_copy_0 : decode cX8_copy 0 = .ok (.iload_n 1, 1) := dk_27 (dk_at dksX8_copy_0 0 rfl rfl)
theorem dX8_copy_1 : decode cX8_copy 1 = .ok (.invokestatic 339, 3) := dk_184 1 83 (dk_at dksX8_copy_0 1 rfl rfl)
theorem dX8_copy_4 : decode cX8_copy 4 = .ok (.ifCond .eq 10, 3) := dk_153 0 10 (dk_at dksX8_copy_0 4 rfl rfl)
theorem dX8_copy_7 : decode cX8_copy 7 = .ok (.iload_n 3, 1) := dk_29 (dk_at dksX8_copy_0 7 rfl rfl)
theorem dX8_copy_8 : decode cX8_copy 8 = .ok (.invokestatic 339, 3) := dk_184 1 83 (dk_at dksX8_copy_0 8 rfl rfl)
theorem dX8_copy_11 : decode cX8_copy 11 = .ok (.ifCond .ne 6, 3) := dk_154 0 6 (dk_at dksX8_copy_0 11 rfl rfl)
theorem dX8_copy_14 : decode cX8_copy 14 = .ok (.bipush (-2), 2) := dk_16 254 (dk_at dksX8_copy_0 14 rfl rfl)
theorem dX8_copy_16 : decode cX8_copy 16 = .ok (.ireturn, 1) := dk_172 (dk_at dksX8_copy_0 16 rfl rfl)
theorem dX8_copy_17 : decode cX8_copy 17 = .ok (.aload_n 0, 1) := dk_42 (dk_at dksX8_copy_0 17 rfl rfl)
theorem dX8_copy_18 : decode cX8_copy 18 = .ok (.getfield 68, 3) := dk_180 0 68 (dk_at dksX8_copy_0 18 rfl rfl)
theorem dX8_copy_21 : decode cX8_copy 21 = .ok (.iload_n 1, 1) := dk_27 (dk_at dksX8_copy_0 21 rfl rfl)
theorem dX8_copy_22 : decode cX8_copy 22 = .ok (.baload, 1) := dk_51 (dk_at dksX8_copy_0 22 rfl rfl)
theorem dX8_copy_23 : decode cX8_copy 23 = .ok (.ifCond .eq 12, 3) := dk_153 0 12 (dk_at dksX8_copy_1 0 rfl rfl)
theorem dX8_copy_26 : decode cX8_copy 26 = .ok (.aload_n 0, 1) := dk_42 (dk_at dksX8_copy_1 3 rfl rfl)
theorem dX8_copy_27 : decode cX8_copy 27 = .ok (.getfield 68, 3) := dk_180 0 68 (dk_at dksX8_copy_1 4 rfl rfl)
theorem dX8_copy_30 : decode cX8_copy 30 = .ok (.iload_n 3, 1) := dk_29 (dk_at dksX8_copy_1 7 rfl rfl)
theorem dX8_copy_31 : decode cX8_copy 31 = .ok (.baload, 1) := dk_51 (dk_at dksX8_copy_1 8 rfl rfl)
theorem dX8_copy_32 : decode cX8_copy 32 = .ok (.ifCond .ne 6, 3) := dk_154 0 6 (dk_at dksX8_copy_1 9 rfl rfl)
theorem dX8_copy_35 : decode cX8_copy 35 = .ok (.bipush (-11), 2) := dk_16 245 (dk_at dksX8_copy_1 12 rfl rfl)
theorem dX8_copy_37 : decode cX8_copy 37 = .ok (.ireturn, 1) := dk_172 (dk_at dksX8_copy_1 14 rfl rfl)
theorem dX8_copy_38 : decode cX8_copy 38 = .ok (.aload_n 0, 1) := dk_42 (dk_at dksX8_copy_1 15 rfl rfl)
theorem dX8_copy_39 : decode cX8_copy 39 = .ok (.getfield 72, 3) := dk_180 0 72 (dk_at dksX8_copy_1 16 rfl rfl)
theorem dX8_copy_42 : decode cX8_copy 42 = .ok (.iload_n 1, 1) := dk_27 (dk_at dksX8_copy_1 19 rfl rfl)
theorem dX8_copy_43 : decode cX8_copy 43 = .ok (.iaload, 1) := dk_46 (dk_at dksX8_copy_1 20 rfl rfl)
theorem dX8_copy_44 : decode cX8_copy 44 = .ok (.aload_n 0, 1) := dk_42 (dk_at dksX8_copy_1 21 rfl rfl)
theorem dX8_copy_45 : decode cX8_copy 45 = .ok (.getfield 72, 3) := dk_180 0 72 (dk_at dksX8_copy_2 0 rfl rfl)
theorem dX8_copy_48 : decode cX8_copy 48 = .ok (.iload_n 3, 1) := dk_29 (dk_at dksX8_copy_2 3 rfl rfl)
theorem dX8_copy_49 : decode cX8_copy 49 = .ok (.iaload, 1) := dk_46 (dk_at dksX8_copy_2 4 rfl rfl)
theorem dX8_copy_50 : decode cX8_copy 50 = .ok (.if_icmp .eq 6, 3) := dk_159 0 6 (dk_at dksX8_copy_2 5 rfl rfl)
theorem dX8_copy_53 : decode cX8_copy 53 = .ok (.bipush (-13), 2) := dk_16 243 (dk_at dksX8_copy_2 8 rfl rfl)
theorem dX8_copy_55 : decode cX8_copy 55 = .ok (.ireturn, 1) := dk_172 (dk_at dksX8_copy_2 10 rfl rfl)
theorem dX8_copy_56 : decode cX8_copy 56 = .ok (.iload 5, 2) := dk_21 5 (dk_at dksX8_copy_2 11 rfl rfl)
theorem dX8_copy_58 : decode cX8_copy 58 = .ok (.ifCond .lt 39, 3) := dk_155 0 39 (dk_at dksX8_copy_2 13 rfl rfl)
theorem dX8_copy_61 : decode cX8_copy 61 = .ok (.iload_n 2, 1) := dk_28 (dk_at dksX8_copy_2 16 rfl rfl)
theorem dX8_copy_62 : decode cX8_copy 62 = .ok (.ifCond .lt 35, 3) := dk_155 0 35 (dk_at dksX8_copy_2 17 rfl rfl)
theorem dX8_copy_65 : decode cX8_copy 65 = .ok (.iload 4, 2) := dk_21 4 (dk_at dksX8_copy_2 20 rfl rfl)
theorem dX8_copy_67 : decode cX8_copy 67 = .ok (.ifCond .lt 30, 3) := dk_155 0 30 (dk_at dksX8_copy_3 0 rfl rfl)
theorem dX8_copy_70 : decode cX8_copy 70 = .ok (.iload_n 2, 1) := dk_28 (dk_at dksX8_copy_3 3 rfl rfl)
theorem dX8_copy_71 : decode cX8_copy 71 = .ok (.aload_n 0, 1) := dk_42 (dk_at dksX8_copy_3 4 rfl rfl)
theorem dX8_copy_72 : decode cX8_copy 72 = .ok (.getfield 75, 3) := dk_180 0 75 (dk_at dksX8_copy_3 5 rfl rfl)
theorem dX8_copy_75 : decode cX8_copy 75 = .ok (.iload_n 1, 1) := dk_27 (dk_at dksX8_copy_3 8 rfl rfl)
theorem dX8_copy_76 : decode cX8_copy 76 = .ok (.iaload, 1) := dk_46 (dk_at dksX8_copy_3 9 rfl rfl)
theorem dX8_copy_77 : decode cX8_copy 77 = .ok (.iload 5, 2) := dk_21 5 (dk_at dksX8_copy_3 10 rfl rfl)
theorem dX8_copy_79 : decode cX8_copy 79 = .ok (.isub, 1) := dk_100 (dk_at dksX8_copy_3 12 rfl rfl)
theorem dX8_copy_80 : decode cX8_copy 80 = .ok (.if_icmp .gt 17, 3) := dk_163 0 17 (dk_at dksX8_copy_3 13 rfl rfl)
theorem dX8_copy_83 : decode cX8_copy 83 = .ok (.iload 4, 2) := dk_21 4 (dk_at dksX8_copy_3 16 rfl rfl)
theorem dX8_copy_85 : decode cX8_copy 85 = .ok (.aload_n 0, 1) := dk_42 (dk_at dksX8_copy_3 18 rfl rfl)
theorem dX8_copy_86 : decode cX8_copy 86 = .ok (.getfield 75, 3) := dk_180 0 75 (dk_at dksX8_copy_3 19 rfl rfl)
theorem dX8_copy_89 : decode cX8_copy 89 = .ok (.iload_n 3, 1) := dk_29 (dk_at dksX8_copy_3 22 rfl rfl)
theorem dX8_copy_90 : decode cX8_copy 90 = .ok (.iaload, 1) := dk_46 (dk_at dksX8_copy_3 23 rfl rfl)
theorem dX8_copy_91 : decode cX8_copy 91 = .ok (.iload 5, 2) := dk_21 5 (dk_at dksX8_copy_4 0 rfl rfl)
theorem dX8_copy_93 : decode cX8_copy 93 = .ok (.isub, 1) := dk_100 (dk_at dksX8_copy_4 2 rfl rfl)
theorem dX8_copy_94 : decode cX8_copy 94 = .ok (.if_icmp .le 6, 3) := dk_164 0 6 (dk_at dksX8_copy_4 3 rfl rfl)
theorem dX8_copy_97 : decode cX8_copy 97 = .ok (.bipush (-12), 2) := dk_16 244 (dk_at dksX8_copy_4 6 rfl rfl)
theorem dX8_copy_99 : decode cX8_copy 99 = .ok (.ireturn, 1) := dk_172 (dk_at dksX8_copy_4 8 rfl rfl)
theorem dX8_copy_100 : decode cX8_copy 100 = .ok (.iload_n 1, 1) := dk_27 (dk_at dksX8_copy_4 9 rfl rfl)
theorem dX8_copy_101 : decode cX8_copy 101 = .ok (.iload_n 3, 1) := dk_29 (dk_at dksX8_copy_4 10 rfl rfl)
theorem dX8_copy_102 : decode cX8_copy 102 = .ok (.if_icmp .ne 13, 3) := dk_160 0 13 (dk_at dksX8_copy_4 11 rfl rfl)
theorem dX8_copy_105 : decode cX8_copy 105 = .ok (.iload_n 2, 1) := dk_28 (dk_at dksX8_copy_4 14 rfl rfl)
theorem dX8_copy_106 : decode cX8_copy 106 = .ok (.iload 4, 2) := dk_21 4 (dk_at dksX8_copy_4 15 rfl rfl)
theorem dX8_copy_108 : decode cX8_copy 108 = .ok (.if_icmp .ge 7, 3) := dk_162 0 7 (dk_at dksX8_copy_4 17 rfl rfl)
theorem dX8_copy_111 : decode cX8_copy 111 = .ok (.iconst 1, 1) := dk_4 (dk_at dksX8_copy_4 20 rfl rfl)
theorem dX8_copy_112 : decode cX8_copy 112 = .ok (.goto 4, 3) := dk_167 0 4 (dk_at dksX8_copy_4 21 rfl rfl)
theorem dX8_copy_115 : decode cX8_copy 115 = .ok (.iconst 0, 1) := dk_3 (dk_at dksX8_copy_5 0 rfl rfl)
theorem dX8_copy_116 : decode cX8_copy 116 = .ok (.istore 6, 2) := dk_54 6 (dk_at dksX8_copy_5 1 rfl rfl)
theorem dX8_copy_118 : decode cX8_copy 118 = .ok (.iconst 0, 1) := dk_3 (dk_at dksX8_copy_5 3 rfl rfl)
theorem dX8_copy_119 : decode cX8_copy 119 = .ok (.istore 7, 2) := dk_54 7 (dk_at dksX8_copy_5 4 rfl rfl)
theorem dX8_copy_121 : decode cX8_copy 121 = .ok (.iload 7, 2) := dk_21 7 (dk_at dksX8_copy_5 6 rfl rfl)
theorem dX8_copy_123 : decode cX8_copy 123 = .ok (.iload 5, 2) := dk_21 5 (dk_at dksX8_copy_5 8 rfl rfl)
theorem dX8_copy_125 : decode cX8_copy 125 = .ok (.if_icmp .ge 57, 3) := dk_162 0 57 (dk_at dksX8_copy_5 10 rfl rfl)
theorem dX8_copy_128 : decode cX8_copy 128 = .ok (.iload 6, 2) := dk_21 6 (dk_at dksX8_copy_5 13 rfl rfl)
theorem dX8_copy_130 : decode cX8_copy 130 = .ok (.ifCond .eq 13, 3) := dk_153 0 13 (dk_at dksX8_copy_5 15 rfl rfl)
theorem dX8_copy_133 : decode cX8_copy 133 = .ok (.iload 5, 2) := dk_21 5 (dk_at dksX8_copy_5 18 rfl rfl)
theorem dX8_copy_135 : decode cX8_copy 135 = .ok (.iconst 1, 1) := dk_4 (dk_at dksX8_copy_5 20 rfl rfl)
theorem dX8_copy_136 : decode cX8_copy 136 = .ok (.isub, 1) := dk_100 (dk_at dksX8_copy_5 21 rfl rfl)
theorem dX8_copy_137 : decode cX8_copy 137 = .ok (.iload 7, 2) := dk_21 7 (dk_at dksX8_copy_5 22 rfl rfl)
theorem dX8_copy_139 : decode cX8_copy 139 = .ok (.isub, 1) := dk_100 (dk_at dksX8_copy_6 0 rfl rfl)
theorem dX8_copy_140 : decode cX8_copy 140 = .ok (.goto 5, 3) := dk_167 0 5 (dk_at dksX8_copy_6 1 rfl rfl)
theorem dX8_copy_143 : decode cX8_copy 143 = .ok (.iload 7, 2) := dk_21 7 (dk_at dksX8_copy_6 4 rfl rfl)
theorem dX8_copy_145 : decode cX8_copy 145 = .ok (.istore 8, 2) := dk_54 8 (dk_at dksX8_copy_6 6 rfl rfl)
theorem dX8_copy_147 : decode cX8_copy 147 = .ok (.aload_n 0, 1) := dk_42 (dk_at dksX8_copy_6 8 rfl rfl)
theorem dX8_copy_148 : decode cX8_copy 148 = .ok (.getfield 78, 3) := dk_180 0 78 (dk_at dksX8_copy_6 9 rfl rfl)
theorem dX8_copy_151 : decode cX8_copy 151 = .ok (.bipush 40, 2) := dk_16 40 (dk_at dksX8_copy_6 12 rfl rfl)
theorem dX8_copy_153 : decode cX8_copy 153 = .ok (.iload_n 3, 1) := dk_29 (dk_at dksX8_copy_6 14 rfl rfl)
theorem dX8_copy_154 : decode cX8_copy 154 = .ok (.imul, 1) := dk_104 (dk_at dksX8_copy_6 15 rfl rfl)
theorem dX8_copy_155 : decode cX8_copy 155 = .ok (.iload 4, 2) := dk_21 4 (dk_at dksX8_copy_6 16 rfl rfl)
theorem dX8_copy_157 : decode cX8_copy 157 = .ok (.iadd, 1) := dk_96 (dk_at dksX8_copy_6 18 rfl rfl)
theorem dX8_copy_158 : decode cX8_copy 158 = .ok (.iload 8, 2) := dk_21 8 (dk_at dksX8_copy_6 19 rfl rfl)
theorem dX8_copy_160 : decode cX8_copy 160 = .ok (.iadd, 1) := dk_96 (dk_at dksX8_copy_6 21 rfl rfl)
theorem dX8_copy_161 : decode cX8_copy 161 = .ok (.aload_n 0, 1) := dk_42 (dk_at dksX8_copy_6 22 rfl rfl)
theorem dX8_copy_162 : decode cX8_copy 162 = .ok (.getfield 78, 3) := dk_180 0 78 (dk_at dksX8_copy_7 0 rfl rfl)
theorem dX8_copy_165 : decode cX8_copy 165 = .ok (.bipush 40, 2) := dk_16 40 (dk_at dksX8_copy_7 3 rfl rfl)
theorem dX8_copy_167 : decode cX8_copy 167 = .ok (.iload_n 1, 1) := dk_27 (dk_at dksX8_copy_7 5 rfl rfl)
theorem dX8_copy_168 : decode cX8_copy 168 = .ok (.imul, 1) := dk_104 (dk_at dksX8_copy_7 6 rfl rfl)
theorem dX8_copy_169 : decode cX8_copy 169 = .ok (.iload_n 2, 1) := dk_28 (dk_at dksX8_copy_7 7 rfl rfl)
theorem dX8_copy_170 : decode cX8_copy 170 = .ok (.iadd, 1) := dk_96 (dk_at dksX8_copy_7 8 rfl rfl)
theorem dX8_copy_171 : decode cX8_copy 171 = .ok (.iload 8, 2) := dk_21 8 (dk_at dksX8_copy_7 9 rfl rfl)
theorem dX8_copy_173 : decode cX8_copy 173 = .ok (.iadd, 1) := dk_96 (dk_at dksX8_copy_7 11 rfl rfl)
theorem dX8_copy_174 : decode cX8_copy 174 = .ok (.iaload, 1) := dk_46 (dk_at dksX8_copy_7 12 rfl rfl)
theorem dX8_copy_175 : decode cX8_copy 175 = .ok (.iastore, 1) := dk_79 (dk_at dksX8_copy_7 13 rfl rfl)
theorem dX8_copy_176 : decode cX8_copy 176 = .ok (.iinc 7 1, 3) := dk_132 7 1 (dk_at dksX8_copy_7 14 rfl rfl)
theorem dX8_copy_179 : decode cX8_copy 179 = .ok (.goto (-58), 3) := dk_167 255 198 (dk_at dksX8_copy_7 17 rfl rfl)
theorem dX8_copy_182 : decode cX8_copy 182 = .ok (.iload 5, 2) := dk_21 5 (dk_at dksX8_copy_7 20 rfl rfl)
theorem dX8_copy_184 : decode cX8_copy 184 = .ok (.ireturn, 1) := dk_172 (dk_at dksX8_copy_7 22 rfl rfl)
abbrev cX8_gleaners : ByteArray := prog_16_method_82_code
def yX8_gleaners : MethodName := ⟨RX8, "gleaners", "(IIII)I"⟩
def dkwX8_gleaners_6 : List UInt8 := [155, 0, 7, 4, 167, 0, 4, 3, 96, 54, 5, 132, 6, 1, 167, 255, 176, 21, 5, 172]
abbrev dktX8_gleaners_6 : List UInt8 := dkwX8_gleaners_6 ++ []
def dkwX8_gleaners_5 : List UInt8 := [54, 7, 21, 5, 42, 42, 180, 0, 78, 21, 7, 46, 42, 180, 0, 78, 21, 7, 4, 96, 46, 182, 1, 109]
abbrev dktX8_gleaners_5 : List UInt8 := dkwX8_gleaners_5 ++ dktX8_gleaners_6
def dkwX8_gleaners_4 : List UInt8 := [5, 21, 6, 104, 100, 5, 100, 164, 0, 6, 16, 244, 172, 16, 40, 27, 104, 29, 96, 5, 21, 6, 104, 96]
abbrev dktX8_gleaners_4 : List UInt8 := dkwX8_gleaners_4 ++ dktX8_gleaners_5
def dkwX8_gleaners_3 : List UInt8 := [3, 54, 5, 3, 54, 6, 21, 6, 21, 4, 162, 0, 79, 29, 155, 0, 20, 29, 42, 180, 0, 75, 27, 46]
abbrev dktX8_gleaners_3 : List UInt8 := dkwX8_gleaners_3 ++ dktX8_gleaners_4
def dkwX8_gleaners_2 : List UInt8 := [180, 0, 72, 27, 46, 28, 159, 0, 6, 16, 243, 172, 42, 180, 0, 68, 27, 51, 154, 0, 6, 16, 245, 172]
abbrev dktX8_gleaners_2 : List UInt8 := dkwX8_gleaners_2 ++ dktX8_gleaners_3
def dkwX8_gleaners_1 : List UInt8 := [20, 0, 132, 184, 0, 91, 154, 0, 6, 16, 254, 172, 42, 180, 0, 68, 27, 51, 153, 0, 16, 42]
abbrev dktX8_gleaners_1 : List UInt8 := dkwX8_gleaners_1 ++ dktX8_gleaners_2
def dkwX8_gleaners_0 : List UInt8 := [27, 184, 1, 83, 153, 0, 28, 28, 133, 9, 20, 0, 110, 184, 0, 91, 153, 0, 16, 21, 4, 133, 9]
abbrev dktX8_gleaners_0 : List UInt8 := dkwX8_gleaners_0 ++ dktX8_gleaners_1
theorem dksX8_gleaners_0 : cX8_gleaners.data.toList.drop 0 = dktX8_gleaners_0 := by decide +kernel
theorem dksX8_gleaners_1 : cX8_gleaners.data.toList.drop 23 = dktX8_gleaners_1 := dk_seg dksX8_gleaners_0 23 rfl rfl
theorem dksX8_gleaners_2 : cX8_gleaners.data.toList.drop 45 = dktX8_gleaners_2 := dk_seg dksX8_gleaners_1 22 rfl rfl
theorem dksX8_gleaners_3 : cX8_gleaners.data.toList.drop 69 = dktX8_gleaners_3 := dk_seg dksX8_gleaners_2 24 rfl rfl
theorem dksX8_gleaners_4 : cX8_gleaners.data.toList.drop 93 = dktX8_gleaners_4 := dk_seg dksX8_gleaners_3 24 rfl rfl
theorem dksX8_gleaners_5 : cX8_gleaners.data.toList.drop 117 = dktX8_gleaners_5 := dk_seg dksX8_gleaners_4 24 rfl rfl
theorem dksX8_gleaners_6 : cX8_gleaners.data.toList.drop 141 = dktX8_gleaners_6 := dk_seg dksX8_gleaners_5 24 rfl rfl
theorem dX8_gleaners_0 : decode cX8_gleaners 0 = .ok (.iload_n 1, 1) := dk_27 (dk_at dksX8_gleaners_0 0 rfl rfl)
theorem dX8_gleaners_1 : decode cX8_gleaners 1 = .ok (.invokestatic 339, 3) := dk_184 1 83 (dk_at dksX8_gleaners_0 1 rfl rfl)
theorem dX8_gleaners_4 : decode cX8_gleaners 4 = .ok (.ifCond .eq 28, 3) := dk_153 0 28 (dk_at dksX8_gleaners_0 4 rfl rfl)
theorem dX8_gleaners_7 : decode cX8_gleaners 7 = .ok (.iload_n 2, 1) := dk_28 (dk_at dksX8_gleaners_0 7 rfl rfl)
theorem dX8_gleaners_8 : decode cX8_gleaners 8 = .ok (.i2l, 1) := dk_133 (dk_at dksX8_gleaners_0 8 rfl rfl)
theorem dX8_gleaners_9 : decode cX8_gleaners 9 = .ok (.lconst 0, 1) := dk_9 (dk_at dksX8_gleaners_0 9 rfl rfl)
theorem dX8_gleaners_10 : decode cX8_gleaners 10 = .ok (.ldc2_w 110, 3) := dk_20 0 110 (dk_at dksX8_gleaners_0 10 rfl rfl)
theorem dX8_gleaners_13 : decode cX8_gleaners 13 = .ok (.invokestatic 91, 3) := dk_184 0 91 (dk_at dksX8_gleaners_0 13 rfl rfl)
theorem dX8_gleaners_16 : decode cX8_gleaners 16 = .ok (.ifCond .eq 16, 3) := dk_153 0 16 (dk_at dksX8_gleaners_0 16 rfl rfl)
theorem dX8_gleaners_19 : decode cX8_gleaners 19 = .ok (.iload 4, 2) := dk_21 4 (dk_at dksX8_gleaners_0 19 rfl rfl)
theorem dX8_gleaners_21 : decode cX8_gleaners 21 = .ok (.i2l, 1) := dk_133 (dk_at dksX8_gleaners_0 21 rfl rfl)
theorem dX8_gleaners_22 : decode cX8_gleaners 22 = .ok (.lconst 0, 1) := dk_9 (dk_at dksX8_gleaners_0 22 rfl rfl)
theorem dX8_gleaners_23 : decode cX8_gleaners 23 = .ok (.ldc2_w 132, 3) := dk_20 0 132 (dk_at dksX8_gleaners_1 0 rfl rfl)
theorem dX8_gleaners_26 : decode cX8_gleaners 26 = .ok (.invokestatic 91, 3) := dk_184 0 91 (dk_at dksX8_gleaners_1 3 rfl rfl)
theorem dX8_gleaners_29 : decode cX8_gleaners 29 = .ok (.ifCond .ne 6, 3) := dk_154 0 6 (dk_at dksX8_gleaners_1 6 rfl rfl)
theorem dX8_gleaners_32 : decode cX8_gleaners 32 = .ok (.bipush (-2), 2) := dk_16 254 (dk_at dksX8_gleaners_1 9 rfl rfl)
theorem dX8_gleaners_34 : decode cX8_gleaners 34 = .ok (.ireturn, 1) := dk_172 (dk_at dksX8_gleaners_1 11 rfl rfl)
theorem dX8_gleaners_35 : decode cX8_gleaners 35 = .ok (.aload_n 0, 1) := dk_42 (dk_at dksX8_gleaners_1 12 rfl rfl)
theorem dX8_gleaners_36 : decode cX8_gleaners 36 = .ok (.getfield 68, 3) := dk_180 0 68 (dk_at dksX8_gleaners_1 13 rfl rfl)
theorem dX8_gleaners_39 : decode cX8_gleaners 39 = .ok (.iload_n 1, 1) := dk_27 (dk_at dksX8_gleaners_1 16 rfl rfl)
theorem dX8_gleaners_40 : decode cX8_gleaners 40 = .ok (.baload, 1) := dk_51 (dk_at dksX8_gleaners_1 17 rfl rfl)
theorem dX8_gleaners_41 : decode cX8_gleaners 41 = .ok (.ifCond .eq 16, 3) := dk_153 0 16 (dk_at dksX8_gleaners_1 18 rfl rfl)
theorem dX8_gleaners_44 : decode cX8_gleaners 44 = .ok (.aload_n 0, 1) := dk_42 (dk_at dksX8_gleaners_1 21 rfl rfl)
theorem dX8_gleaners_45 : decode cX8_gleaners 45 = .ok (.getfield 72, 3) := dk_180 0 72 (dk_at dksX8_gleaners_2 0 rfl rfl)
theorem dX8_gleaners_48 : decode cX8_gleaners 48 = .ok (.iload_n 1, 1) := dk_27 (dk_at dksX8_gleaners_2 3 rfl rfl)
theorem dX8_gleaners_49 : decode cX8_gleaners 49 = .ok (.iaload, 1) := dk_46 (dk_at dksX8_gleaners_2 4 rfl rfl)
theorem dX8_gleaners_50 : decode cX8_gleaners 50 = .ok (.iload_n 2, 1) := dk_28 (dk_at dksX8_gleaners_2 5 rfl rfl)
theorem dX8_gleaners_51 : decode cX8_gleaners 51 = .ok (.if_icmp .eq 6, 3) := dk_159 0 6 (dk_at dksX8_gleaners_2 6 rfl rfl)
theorem dX8_gleaners_54 : decode cX8_gleaners 54 = .ok (.bipush (-13), 2) := dk_16 243 (dk_at dksX8_gleaners_2 9 rfl rfl)
theorem dX8_gleaners_56 : decode cX8_gleaners 56 = .ok (.ireturn, 1) := dk_172 (dk_at dksX8_gleaners_2 11 rfl rfl)
theorem dX8_gleaners_57 : decode cX8_gleaners 57 = .ok (.aload_n 0, 1) := dk_42 (dk_at dksX8_gleaners_2 12 rfl rfl)
theorem dX8_gleaners_58 : decode cX8_gleaners 58 = .ok (.getfield 68, 3) := dk_180 0 68 (dk_at dksX8_gleaners_2 13 rfl rfl)
theorem dX8_gleaners_61 : decode cX8_gleaners 61 = .ok (.iload_n 1, 1) := dk_27 (dk_at dksX8_gleaners_2 16 rfl rfl)
theorem dX8_gleaners_62 : decode cX8_gleaners 62 = .ok (.baload, 1) := dk_51 (dk_at dksX8_gleaners_2 17 rfl rfl)
theorem dX8_gleaners_63 : decode cX8_gleaners 63 = .ok (.ifCond .ne 6, 3) := dk_154 0 6 (dk_at dksX8_gleaners_2 18 rfl rfl)
theorem dX8_gleaners_66 : decode cX8_gleaners 66 = .ok (.bipush (-11), 2) := dk_16 245 (dk_at dksX8_gleaners_2 21 rfl rfl)
theorem dX8_gleaners_68 : decode cX8_gleaners 68 = .ok (.ireturn, 1) := dk_172 (dk_at dksX8_gleaners_2 23 rfl rfl)
theorem dX8_gleaners_69 : decode cX8_gleaners 69 = .ok (.iconst 0, 1) := dk_3 (dk_at dksX8_gleaners_3 0 rfl rfl)
theorem dX8_gleaners_70 : decode cX8_gleaners 70 = .ok (.istore 5, 2) := dk_54 5 (dk_at dksX8_gleaners_3 1 rfl rfl)
theorem dX8_gleaners_72 : decode cX8_gleaners 72 = .ok (.iconst 0, 1) := dk_3 (dk_at dksX8_gleaners_3 3 rfl rfl)
theorem dX8_gleaners_73 : decode cX8_gleaners 73 = .ok (.istore 6, 2) := dk_54 6 (dk_at dksX8_gleaners_3 4 rfl rfl)
theorem dX8_gleaners_75 : decode cX8_gleaners 75 = .ok (.iload 6, 2) := dk_21 6 (dk_at dksX8_gleaners_3 6 rfl rfl)
theorem dX8_gleaners_77 : decode cX8_gleaners 77 = .ok (.iload 4, 2) := dk_21 4 (dk_at dksX8_gleaners_3 8 rfl rfl)
theorem dX8_gleaners_79 : decode cX8_gleaners 79 = .ok (.if_icmp .ge 79, 3) := dk_162 0 79 (dk_at dksX8_gleaners_3 10 rfl rfl)
theorem dX8_gleaners_82 : decode cX8_gleaners 82 = .ok (.iload_n 3, 1) := dk_29 (dk_at dksX8_gleaners_3 13 rfl rfl)
theorem dX8_gleaners_83 : decode cX8_gleaners 83 = .ok (.ifCond .lt 20, 3) := dk_155 0 20 (dk_at dksX8_gleaners_3 14 rfl rfl)
theorem dX8_gleaners_86 : decode cX8_gleaners 86 = .ok (.iload_n 3, 1) := dk_29 (dk_at dksX8_gleaners_3 17 rfl rfl)
theorem dX8_gleaners_87 : decode cX8_gleaners 87 = .ok (.aload_n 0, 1) := dk_42 (dk_at dksX8_gleaners_3 18 rfl rfl)
theorem dX8_gleaners_88 : decode cX8_gleaners 88 = .ok (.getfield 75, 3) := dk_180 0 75 (dk_at dksX8_gleaners_3 19 rfl rfl)
theorem dX8_gleaners_91 : decode cX8_gleaners 91 = .ok (.iload_n 1, 1) := dk_27 (dk_at dksX8_gleaners_3 22 rfl rfl)
theorem dX8_gleaners_92 : decode cX8_gleaners 92 = .ok (.iaload, 1) := dk_46 (dk_at dksX8_gleaners_3 23 rfl rfl)
theorem dX8_gleaners_93 : decode cX8_gleaners 93 = .ok (.iconst 2, 1) := dk_5 (dk_at dksX8_gleaners_4 0 rfl rfl)
theorem dX8_gleaners_94 : decode cX8_gleaners 94 = .ok (.iload 6, 2) := dk_21 6 (dk_at dksX8_gleaners_4 1 rfl rfl)
theorem dX8_gleaners_96 : decode cX8_gleaners 96 = .ok (.imul, 1) := dk_104 (dk_at dksX8_gleaners_4 3 rfl rfl)
theorem dX8_gleaners_97 : decode cX8_gleaners 97 = .ok (.isub, 1) := dk_100 (dk_at dksX8_gleaners_4 4 rfl rfl)
theorem dX8_gleaners_98 : decode cX8_gleaners 98 = .ok (.iconst 2, 1) := dk_5 (dk_at dksX8_gleaners_4 5 rfl rfl)
theorem dX8_gleaners_99 : decode cX8_gleaners 99 = .ok (.isub, 1) := dk_100 (dk_at dksX8_gleaners_4 6 rfl rfl)
theorem dX8_gleaners_100 : decode cX8_gleaners 100 = .ok (.if_icmp .le 6, 3) := dk_164 0 6 (dk_at dksX8_gleaners_4 7 rfl rfl)
theorem dX8_gleaners_103 : decode cX8_gleaners 103 = .ok (.bipush (-12), 2) := dk_16 244 (dk_at dksX8_gleaners_4 10 rfl rfl)
theorem dX8_gleaners_105 : decode cX8_gleaners 105 = .ok (.ireturn, 1) := dk_172 (dk_at dksX8_gleaners_4 12 rfl rfl)
theorem dX8_gleaners_106 : decode cX8_gleaners 106 = .ok (.bipush 40, 2) := dk_16 40 (dk_at dksX8_gleaners_4 13 rfl rfl)
theorem dX8_gleaners_108 : decode cX8_gleaners 108 = .ok (.iload_n 1, 1) := dk_27 (dk_at dksX8_gleaners_4 15 rfl rfl)
theorem dX8_gleaners_109 : decode cX8_gleaners 109 = .ok (.imul, 1) := dk_104 (dk_at dksX8_gleaners_4 16 rfl rfl)
theorem dX8_gleaners_110 : decode cX8_gleaners 110 = .ok (.iload_n 3, 1) := dk_29 (dk_at dksX8_gleaners_4 17 rfl rfl)
theorem dX8_gleaners_111 : decode cX8_gleaners 111 = .ok (.iadd, 1) := dk_96 (dk_at dksX8_gleaners_4 18 rfl rfl)
theorem dX8_gleaners_112 : decode cX8_gleaners 112 = .ok (.iconst 2, 1) := dk_5 (dk_at dksX8_gleaners_4 19 rfl rfl)
theorem dX8_gleaners_113 : decode cX8_gleaners 113 = .ok (.iload 6, 2) := dk_21 6 (dk_at dksX8_gleaners_4 20 rfl rfl)
theorem dX8_gleaners_115 : decode cX8_gleaners 115 = .ok (.imul, 1) := dk_104 (dk_at dksX8_gleaners_4 22 rfl rfl)
theorem dX8_gleaners_116 : decode cX8_gleaners 116 = .ok (.iadd, 1) := dk_96 (dk_at dksX8_gleaners_4 23 rfl rfl)
theorem dX8_gleaners_117 : decode cX8_gleaners 117 = .ok (.istore 7, 2) := dk_54 7 (dk_at dksX8_gleaners_5 0 rfl rfl)
theorem dX8_gleaners_119 : decode cX8_gleaners 119 = .ok (.iload 5, 2) := dk_21 5 (dk_at dksX8_gleaners_5 2 rfl rfl)
theorem dX8_gleaners_121 : decode cX8_gleaners 121 = .ok (.aload_n 0, 1) := dk_42 (dk_at dksX8_gleaners_5 4 rfl rfl)
theorem dX8_gleaners_122 : decode cX8_gleaners 122 = .ok (.aload_n 0, 1) := dk_42 (dk_at dksX8_gleaners_5 5 rfl rfl)
theorem dX8_gleaners_123 : decode cX8_gleaners 123 = .ok (.getfield 78, 3) := dk_180 0 78 (dk_at dksX8_gleaners_5 6 rfl rfl)
theorem dX8_gleaners_126 : decode cX8_gleaners 126 = .ok (.iload 7, 2) := dk_21 7 (dk_at dksX8_gleaners_5 9 rfl rfl)
theorem dX8_gleaners_128 : decode cX8_gleaners 128 = .ok (.iaload, 1) := dk_46 (dk_at dksX8_gleaners_5 11 rfl rfl)
theorem dX8_gleaners_129 : decode cX8_gleaners 129 = .ok (.aload_n 0, 1) := dk_42 (dk_at dksX8_gleaners_5 12 rfl rfl)
theorem dX8_gleaners_130 : decode cX8_gleaners 130 = .ok (.getfield 78, 3) := dk_180 0 78 (dk_at dksX8_gleaners_5 13 rfl rfl)
theorem dX8_gleaners_133 : decode cX8_gleaners 133 = .ok (.iload 7, 2) := dk_21 7 (dk_at dksX8_gleaners_5 16 rfl rfl)
theorem dX8_gleaners_135 : decode cX8_gleaners 135 = .ok (.iconst 1, 1) := dk_4 (dk_at dksX8_gleaners_5 18 rfl rfl)
theorem dX8_gleaners_136 : decode cX8_gleaners 136 = .ok (.iadd, 1) := dk_96 (dk_at dksX8_gleaners_5 19 rfl rfl)
theorem dX8_gleaners_137 : decode cX8_gleaners 137 = .ok (.iaload, 1) := dk_46 (dk_at dksX8_gleaners_5 20 rfl rfl)
theorem dX8_gleaners_138 : decode cX8_gleaners 138 = .ok (.invokevirtual 365, 3) := dk_182 1 109 (dk_at dksX8_gleaners_5 21 rfl rfl)
theorem dX8_gleaners_141 : decode cX8_gleaners 141 = .ok (.ifCond .lt 7, 3) := dk_155 0 7 (dk_at dksX8_gleaners_6 0 rfl rfl)
theorem dX8_gleaners_144 : decode cX8_gleaners 144 = .ok (.iconst 1, 1) := dk_4 (dk_at dksX8_gleaners_6 3 rfl rfl)
theorem dX8_gleaners_145 : decode cX8_gleaners 145 = .ok (.goto 4, 3) := dk_167 0 4 (dk_at dksX8_gleaners_6 4 rfl rfl)
theorem dX8_gleaners_148 : decode cX8_gleaners 148 = .ok (.iconst 0, 1) := dk_3 (dk_at dksX8_gleaners_6 7 rfl rfl)
theorem dX8_gleaners_149 : decode cX8_gleaners 149 = .ok (.iadd, 1) := dk_96 (dk_at dksX8_gleaners_6 8 rfl rfl)
theorem dX8_gleaners_150 : decode cX8_gleaners 150 = .ok (.istore 5, 2) := dk_54 5 (dk_at dksX8_gleaners_6 9 rfl rfl)
theorem dX8_gleaners_152 : decode cX8_gleaners 152 = .ok (.iinc 6 1, 3) := dk_132 6 1 (dk_at dksX8_gleaners_6 11 rfl rfl)
theorem dX8_gleaners_155 : decode cX8_gleaners 155 = .ok (.goto (-80), 3) := dk_167 255 176 (dk_at dksX8_gleaners_6 14 rfl rfl)
theorem dX8_gleaners_158 : decode cX8_gleaners 158 = .ok (.iload 5, 2) := dk_21 5 (dk_at dksX8_gleaners_6 17 rfl rfl)
theorem dX8_gleaners_160 : decode cX8_gleaners 160 = .ok (.ireturn, 1) := dk_172 (dk_at dksX8_gleaners_6 19 rfl rfl)
abbrev cX8_taken : ByteArray := prog_16_method_84_code
def yX8_taken : MethodName := ⟨RX8, "taken", "(II)I"⟩
def dkwX8_taken_2 : List UInt8 := [62, 167, 255, 241, 29, 28, 160, 0, 14, 42, 180, 0, 32, 5, 27, 104, 46, 167, 0, 5, 16, 243, 172]
abbrev dktX8_taken_2 : List UInt8 := dkwX8_taken_2 ++ []
def dkwX8_taken_1 : List UInt8 := [16, 245, 172, 42, 180, 0, 29, 27, 46, 62, 29, 2, 159, 0, 16, 29, 28, 159, 0, 11, 29, 184, 1, 112]
abbrev dktX8_taken_1 : List UInt8 := dkwX8_taken_1 ++ dktX8_taken_2
def dkwX8_taken_0 : List UInt8 := [28, 133, 9, 20, 0, 132, 184, 0, 91, 154, 0, 6, 16, 254, 172, 42, 27, 182, 0, 112, 154, 0, 6]
abbrev dktX8_taken_0 : List UInt8 := dkwX8_taken_0 ++ dktX8_taken_1
theorem dksX8_taken_0 : cX8_taken.data.toList.drop 0 = dktX8_taken_0 := by decide +kernel
theorem dksX8_taken_1 : cX8_taken.data.toList.drop 23 = dktX8_taken_1 := dk_seg dksX8_taken_0 23 rfl rfl
theorem dksX8_taken_2 : cX8_taken.data.toList.drop 47 = dktX8_taken_2 := dk_seg dksX8_taken_1 24 rfl rfl
theorem dX8_taken_0 : decode cX8_taken 0 = .ok (.iload_n 2, 1) := dk_28 (dk_at dksX8_taken_0 0 rfl rfl)
theorem dX8_taken_1 : decode cX8_taken 1 = .ok (.i2l, 1) := dk_133 (dk_at dksX8_taken_0 1 rfl rfl)
theorem dX8_taken_2 : decode cX8_taken 2 = .ok (.lconst 0, 1) := dk_9 (dk_at dksX8_taken_0 2 rfl rfl)
theorem dX8_taken_3 : decode cX8_taken 3 = .ok (.ldc2_w 132, 3) := dk_20 0 132 (dk_at dksX8_taken_0 3 rfl rfl)
theorem dX8_taken_6 : decode cX8_taken 6 = .ok (.invokestatic 91, 3) := dk_184 0 91 (dk_at dksX8_taken_0 6 rfl rfl)
theorem dX8_taken_9 : decode cX8_taken 9 = .ok (.ifCond .ne 6, 3) := dk_154 0 6 (dk_at dksX8_taken_0 9 rfl rfl)
theorem dX8_taken_12 : decode cX8_taken 12 = .ok (.bipush (-2), 2) := dk_16 254 (dk_at dksX8_taken_0 12 rfl rfl)
theorem dX8_taken_14 : decode cX8_taken 14 = .ok (.ireturn, 1) := dk_172 (dk_at dksX8_taken_0 14 rfl rfl)
theorem dX8_taken_15 : decode cX8_taken 15 = .ok (.aload_n 0, 1) := dk_42 (dk_at dksX8_taken_0 15 rfl rfl)
theorem dX8_taken_16 : decode cX8_taken 16 = .ok (.iload_n 1, 1) := dk_27 (dk_at dksX8_taken_0 16 rfl rfl)
theorem dX8_taken_17 : decode cX8_taken 17 = .ok (.invokevirtual 112, 3) := dk_182 0 112 (dk_at dksX8_taken_0 17 rfl rfl)
theorem dX8_taken_20 : decode cX8_taken 20 = .ok (.ifCond .ne 6, 3) := dk_154 0 6 (dk_at dksX8_taken_0 20 rfl rfl)
theorem dX8_taken_23 : decode cX8_taken 23 = .ok (.bipush (-11), 2) := dk_16 245 (dk_at dksX8_taken_1 0 rfl rfl)
theorem dX8_taken_25 : decode cX8_taken 25 = .ok (.ireturn, 1) := dk_172 (dk_at dksX8_taken_1 2 rfl rfl)
theorem dX8_taken_26 : decode cX8_taken 26 = .ok (.aload_n 0, 1) := dk_42 (dk_at dksX8_taken_1 3 rfl rfl)
theorem dX8_taken_27 : decode cX8_taken 27 = .ok (.getfield 29, 3) := dk_180 0 29 (dk_at dksX8_taken_1 4 rfl rfl)
theorem dX8_taken_30 : decode cX8_taken 30 = .ok (.iload_n 1, 1) := dk_27 (dk_at dksX8_taken_1 7 rfl rfl)
theorem dX8_taken_31 : decode cX8_taken 31 = .ok (.iaload, 1) := dk_46 (dk_at dksX8_taken_1 8 rfl rfl)
theorem dX8_taken_32 : decode cX8_taken 32 = .ok (.istore_n 3, 1) := dk_62 (dk_at dksX8_taken_1 9 rfl rfl)
theorem dX8_taken_33 : decode cX8_taken 33 = .ok (.iload_n 3, 1) := dk_29 (dk_at dksX8_taken_1 10 rfl rfl)
theorem dX8_taken_34 : decode cX8_taken 34 = .ok (.iconst (-1), 1) := dk_2 (dk_at dksX8_taken_1 11 rfl rfl)
theorem dX8_taken_35 : decode cX8_taken 35 = .ok (.if_icmp .eq 16, 3) := dk_159 0 16 (dk_at dksX8_taken_1 12 rfl rfl)
theorem dX8_taken_38 : decode cX8_taken 38 = .ok (.iload_n 3, 1) := dk_29 (dk_at dksX8_taken_1 15 rfl rfl)
theorem dX8_taken_39 : decode cX8_taken 39 = .ok (.iload_n 2, 1) := dk_28 (dk_at dksX8_taken_1 16 rfl rfl)
theorem dX8_taken_40 : decode cX8_taken 40 = .ok (.if_icmp .eq 11, 3) := dk_159 0 11 (dk_at dksX8_taken_1 17 rfl rfl)
theorem dX8_taken_43 : decode cX8_taken 43 = .ok (.iload_n 3, 1) := dk_29 (dk_at dksX8_taken_1 20 rfl rfl)
theorem dX8_taken_44 : decode cX8_taken 44 = .ok (.invokestatic 368, 3) := dk_184 1 112 (dk_at dksX8_taken_1 21 rfl rfl)
theorem dX8_taken_47 : decode cX8_taken 47 = .ok (.istore_n 3, 1) := dk_62 (dk_at dksX8_taken_2 0 rfl rfl)
theorem dX8_taken_48 : decode cX8_taken 48 = .ok (.goto (-15), 3) := dk_167 255 241 (dk_at dksX8_taken_2 1 rfl rfl)
theorem dX8_taken_51 : decode cX8_taken 51 = .ok (.iload_n 3, 1) := dk_29 (dk_at dksX8_taken_2 4 rfl rfl)
theorem dX8_taken_52 : decode cX8_taken 52 = .ok (.iload_n 2, 1) := dk_28 (dk_at dksX8_taken_2 5 rfl rfl)
theorem dX8_taken_53 : decode cX8_taken 53 = .ok (.if_icmp .ne 14, 3) := dk_160 0 14 (dk_at dksX8_taken_2 6 rfl rfl)
theorem dX8_taken_56 : decode cX8_taken 56 = .ok (.aload_n 0, 1) := dk_42 (dk_at dksX8_taken_2 9 rfl rfl)
theorem dX8_taken_57 : decode cX8_taken 57 = .ok (.getfield 32, 3) := dk_180 0 32 (dk_at dksX8_taken_2 10 rfl rfl)
theorem dX8_taken_60 : decode cX8_taken 60 = .ok (.iconst 2, 1) := dk_5 (dk_at dksX8_taken_2 13 rfl rfl)
theorem dX8_taken_61 : decode cX8_taken 61 = .ok (.iload_n 1, 1) := dk_27 (dk_at dksX8_taken_2 14 rfl rfl)
theorem dX8_taken_62 : decode cX8_taken 62 = .ok (.imul, 1) := dk_104 (dk_at dksX8_taken_2 15 rfl rfl)
theorem dX8_taken_63 : decode cX8_taken 63 = .ok (.iaload, 1) := dk_46 (dk_at dksX8_taken_2 16 rfl rfl)
theorem dX8_taken_64 : decode cX8_taken 64 = .ok (.goto 5, 3) := dk_167 0 5 (dk_at dksX8_taken_2 17 rfl rfl)
theorem dX8_taken_67 : decode cX8_taken 67 = .ok (.bipush (-13), 2) := dk_16 243 (dk_at dksX8_taken_2 20 rfl rfl)
theorem dX8_taken_69 : decode cX8_taken 69 = .ok (.ireturn, 1) := dk_172 (dk_at dksX8_taken_2 22 rfl rfl)
abbrev cX8_over : ByteArray := prog_16_method_83_code
def yX8_over : MethodName := ⟨RX8, "over", "(I)I"⟩
def dkwX8_over_1 : List UInt8 := [167, 0, 4, 3, 172]
abbrev dktX8_over_1 : List UInt8 := dkwX8_over_1 ++ []
def dkwX8_over_0 : List UInt8 := [26, 154, 0, 7, 2, 167, 0, 22, 26, 6, 160, 0, 7, 4, 167, 0, 13, 26, 7, 160, 0, 7, 5]
abbrev dktX8_over_0 : List UInt8 := dkwX8_over_0 ++ dktX8_over_1
theorem dksX8_over_0 : cX8_over.data.toList.drop 0 = dktX8_over_0 := by decide +kernel
theorem dksX8_over_1 : cX8_over.data.toList.drop 23 = dktX8_over_1 := dk_seg dksX8_over_0 23 rfl rfl
theorem dX8_over_0 : decode cX8_over 0 = .ok (.iload_n 0, 1) := dk_26 (dk_at dksX8_over_0 0 rfl rfl)
theorem dX8_over_1 : decode cX8_over 1 = .ok (.ifCond .ne 7, 3) := dk_154 0 7 (dk_at dksX8_over_0 1 rfl rfl)
theorem dX8_over_4 : decode cX8_over 4 = .ok (.iconst (-1), 1) := dk_2 (dk_at dksX8_over_0 4 rfl rfl)
theorem dX8_over_5 : decode cX8_over 5 = .ok (.goto 22, 3) := dk_167 0 22 (dk_at dksX8_over_0 5 rfl rfl)
theorem dX8_over_8 : decode cX8_over 8 = .ok (.iload_n 0, 1) := dk_26 (dk_at dksX8_over_0 8 rfl rfl)
theorem dX8_over_9 : decode cX8_over 9 = .ok (.iconst 3, 1) := dk_6 (dk_at dksX8_over_0 9 rfl rfl)
theorem dX8_over_10 : decode cX8_over 10 = .ok (.if_icmp .ne 7, 3) := dk_160 0 7 (dk_at dksX8_over_0 10 rfl rfl)
theorem dX8_over_13 : decode cX8_over 13 = .ok (.iconst 1, 1) := dk_4 (dk_at dksX8_over_0 13 rfl rfl)
theorem dX8_over_14 : decode cX8_over 14 = .ok (.goto 13, 3) := dk_167 0 13 (dk_at dksX8_over_0 14 rfl rfl)
theorem dX8_over_17 : decode cX8_over 17 = .ok (.iload_n 0, 1) := dk_26 (dk_at dksX8_over_0 17 rfl rfl)
theorem dX8_over_18 : decode cX8_over 18 = .ok (.iconst 4, 1) := dk_7 (dk_at dksX8_over_0 18 rfl rfl)
theorem dX8_over_19 : decode cX8_over 19 = .ok (.if_icmp .ne 7, 3) := dk_160 0 7 (dk_at dksX8_over_0 19 rfl rfl)
theorem dX8_over_22 : decode cX8_over 22 = .ok (.iconst 2, 1) := dk_5 (dk_at dksX8_over_0 22 rfl rfl)
theorem dX8_over_23 : decode cX8_over 23 = .ok (.goto 4, 3) := dk_167 0 4 (dk_at dksX8_over_1 0 rfl rfl)
theorem dX8_over_26 : decode cX8_over 26 = .ok (.iconst 0, 1) := dk_3 (dk_at dksX8_over_1 3 rfl rfl)
theorem dX8_over_27 : decode cX8_over 27 = .ok (.ireturn, 1) := dk_172 (dk_at dksX8_over_1 4 rfl rfl)
theorem q120 : (Jvm.Cond.initialized "GleanersForGapsModel") ∈ lw_all := lw_g (lw_at lw_m1 18 rfl) rfl
theorem q1263 : (Jvm.Cond.instantiable "GleanersForGapsModel" (47 : Nat)) ∈ lw_all := lw_g (lw_at lw_m5 201 rfl) rfl
theorem q1265 : (Jvm.Cond.instanceMethod ({ cls := "GleanersForGapsModel", name := "<init>", desc := "()V" } : Jvm.MethodName)) ∈ lw_all := lw_g (lw_at lw_m5 203 rfl) rfl
theorem q1266 : (Jvm.Cond.code ({ cls := "GleanersForGapsModel", name := "<init>", desc := "()V" } : Jvm.MethodName) prog_16_method_4_code (1 : Nat) (Option.none : Option Jvm.ClassFile.FieldType)) ∈ lw_all := lw_g (lw_at lw_m5 204 rfl) rfl
theorem q1267 : (Jvm.Cond.methodLink "GleanersForGapsModel" (7 : Nat) ({ cls := "java/lang/Object", name := "<init>", desc := "()V" } : Jvm.MethodName)) ∈ lw_all := lw_g (lw_at lw_m5 205 rfl) rfl
theorem q1268 : (Jvm.Cond.methodLink "GleanersForGapsModel" (81 : Nat) ({ cls := "GleanersForGapsModel", name := "spell", desc := "(IIIIIIIII)V" } : Jvm.MethodName)) ∈ lw_all := lw_g (lw_at lw_m5 206 rfl) rfl
theorem q1269 : (Jvm.Cond.privateMethod ({ cls := "GleanersForGapsModel", name := "spell", desc := "(IIIIIIIII)V" } : Jvm.MethodName)) ∈ lw_tbl := lw_at lw_m5 207 rfl
theorem q1270 : (Jvm.Cond.instanceMethod ({ cls := "GleanersForGapsModel", name := "spell", desc := "(IIIIIIIII)V" } : Jvm.MethodName)) ∈ lw_all := lw_g (lw_at lw_m5 208 rfl) rfl
theorem q1271 : (Jvm.Cond.code ({ cls := "GleanersForGapsModel", name := "spell", desc := "(IIIIIIIII)V" } : Jvm.MethodName) prog_16_method_5_code (10 : Nat) (Option.none : Option Jvm.ClassFile.FieldType)) ∈ lw_all := lw_g (lw_at lw_m5 209 rfl) rfl
theorem q1272 : (Jvm.Cond.fieldLink "GleanersForGapsModel" (13 : Nat) "GleanersForGapsModel" "texts" "[I") ∈ lw_all := lw_g (lw_at lw_m5 210 rfl) rfl
theorem q1273 : (Jvm.Cond.fieldLink "GleanersForGapsModel" (17 : Nat) "GleanersForGapsModel" "textSize" "[I") ∈ lw_all := lw_g (lw_at lw_m5 211 rfl) rfl
theorem q1274 : (Jvm.Cond.fieldLink "GleanersForGapsModel" (85 : Nat) "GleanersForGapsModel" "textCount" "I") ∈ lw_all := lw_g (lw_at lw_m5 212 rfl) rfl
theorem q1275 : (Jvm.Cond.fieldLink "GleanersForGapsModel" (129 : Nat) "GleanersForGapsModel" "rule" "I") ∈ lw_all := lw_g (lw_at lw_m5 213 rfl) rfl
theorem q1276 : (Jvm.Cond.fieldLink "GleanersForGapsModel" (20 : Nat) "GleanersForGapsModel" "tape" "[I") ∈ lw_all := lw_g (lw_at lw_m5 214 rfl) rfl
theorem q1277 : (Jvm.Cond.fieldLink "GleanersForGapsModel" (152 : Nat) "GleanersForGapsModel" "taped" "I") ∈ lw_all := lw_g (lw_at lw_m5 215 rfl) rfl
theorem q1278 : (Jvm.Cond.fieldLink "GleanersForGapsModel" (126 : Nat) "GleanersForGapsModel" "nightNow" "I") ∈ lw_all := lw_g (lw_at lw_m5 216 rfl) rfl
theorem q1279 : (Jvm.Cond.fieldLink "GleanersForGapsModel" (23 : Nat) "GleanersForGapsModel" "bits" "[I") ∈ lw_all := lw_g (lw_at lw_m5 217 rfl) rfl
theorem q1280 : (Jvm.Cond.fieldLink "GleanersForGapsModel" (26 : Nat) "GleanersForGapsModel" "length" "[I") ∈ lw_all := lw_g (lw_at lw_m5 218 rfl) rfl
theorem q1281 : (Jvm.Cond.fieldLink "GleanersForGapsModel" (29 : Nat) "GleanersForGapsModel" "kinds" "[I") ∈ lw_all := lw_g (lw_at lw_m5 219 rfl) rfl
theorem q1282 : (Jvm.Cond.fieldLink "GleanersForGapsModel" (32 : Nat) "GleanersForGapsModel" "rows" "[I") ∈ lw_all := lw_g (lw_at lw_m5 220 rfl) rfl
theorem q1283 : (Jvm.Cond.fieldLink "GleanersForGapsModel" (88 : Nat) "GleanersForGapsModel" "many" "I") ∈ lw_all := lw_g (lw_at lw_m5 221 rfl) rfl
theorem q1284 : (Jvm.Cond.fieldLink "GleanersForGapsModel" (209 : Nat) "GleanersForGapsModel" "ofGap" "I") ∈ lw_all := lw_g (lw_at lw_m5 222 rfl) rfl
theorem q1285 : (Jvm.Cond.fieldLink "GleanersForGapsModel" (212 : Nat) "GleanersForGapsModel" "ofNth" "I") ∈ lw_all := lw_g (lw_at lw_m5 223 rfl) rfl
theorem q1286 : (Jvm.Cond.fieldLink "GleanersForGapsModel" (215 : Nat) "GleanersForGapsModel" "ofNumber" "I") ∈ lw_all := lw_g (lw_at lw_m5 224 rfl) rfl
theorem q1287 : (Jvm.Cond.fieldLink "GleanersForGapsModel" (218 : Nat) "GleanersForGapsModel" "ofNight" "I") ∈ lw_all := lw_g (lw_at lw_m5 225 rfl) rfl
theorem q1288 : (Jvm.Cond.fieldLink "GleanersForGapsModel" (221 : Nat) "GleanersForGapsModel" "ofApron" "I") ∈ lw_all := lw_g (lw_at lw_m5 226 rfl) rfl
theorem q1289 : (Jvm.Cond.fieldLink "GleanersForGapsModel" (224 : Nat) "GleanersForGapsModel" "ofRow" "I") ∈ lw_all := lw_g (lw_at lw_m5 227 rfl) rfl
theorem q1290 : (Jvm.Cond.fieldLink "GleanersForGapsModel" (158 : Nat) "GleanersForGapsModel" "from" "I") ∈ lw_all := lw_g (lw_at lw_m5 228 rfl) rfl
theorem q1291 : (Jvm.Cond.fieldLink "GleanersForGapsModel" (155 : Nat) "GleanersForGapsModel" "size" "I") ∈ lw_all := lw_g (lw_at lw_m5 229 rfl) rfl
theorem q1292 : (Jvm.Cond.fieldLink "GleanersForGapsModel" (161 : Nat) "GleanersForGapsModel" "here" "I") ∈ lw_all := lw_g (lw_at lw_m5 230 rfl) rfl
theorem q1293 : (Jvm.Cond.fieldLink "GleanersForGapsModel" (170 : Nat) "GleanersForGapsModel" "token" "I") ∈ lw_all := lw_g (lw_at lw_m5 231 rfl) rfl
theorem q1294 : (Jvm.Cond.fieldLink "GleanersForGapsModel" (167 : Nat) "GleanersForGapsModel" "tokenAt" "I") ∈ lw_all := lw_g (lw_at lw_m5 232 rfl) rfl
theorem q1295 : (Jvm.Cond.fieldLink "GleanersForGapsModel" (181 : Nat) "GleanersForGapsModel" "tokenWorth" "J") ∈ lw_all := lw_g (lw_at lw_m5 233 rfl) rfl
theorem q1296 : (Jvm.Cond.fieldLink "GleanersForGapsModel" (196 : Nat) "GleanersForGapsModel" "open" "I") ∈ lw_all := lw_g (lw_at lw_m5 234 rfl) rfl
theorem q1297 : (Jvm.Cond.fieldLink "GleanersForGapsModel" (185 : Nat) "GleanersForGapsModel" "bad" "Z") ∈ lw_all := lw_g (lw_at lw_m5 235 rfl) rfl
theorem q1298 : (Jvm.Cond.fieldLink "GleanersForGapsModel" (189 : Nat) "GleanersForGapsModel" "fault" "I") ∈ lw_all := lw_g (lw_at lw_m5 236 rfl) rfl
theorem q1299 : (Jvm.Cond.fieldLink "GleanersForGapsModel" (35 : Nat) "GleanersForGapsModel" "begins" "[I") ∈ lw_all := lw_g (lw_at lw_m5 237 rfl) rfl
theorem q1300 : (Jvm.Cond.fieldLink "GleanersForGapsModel" (38 : Nat) "GleanersForGapsModel" "sizes" "[I") ∈ lw_all := lw_g (lw_at lw_m5 238 rfl) rfl
theorem q1301 : (Jvm.Cond.fieldLink "GleanersForGapsModel" (41 : Nat) "GleanersForGapsModel" "takes1" "[I") ∈ lw_all := lw_g (lw_at lw_m5 239 rfl) rfl
theorem q1302 : (Jvm.Cond.fieldLink "GleanersForGapsModel" (44 : Nat) "GleanersForGapsModel" "digitOf" "[I") ∈ lw_all := lw_g (lw_at lw_m6 0 rfl) rfl
theorem q1303 : (Jvm.Cond.fieldLink "GleanersForGapsModel" (47 : Nat) "GleanersForGapsModel" "keptNow" "[I") ∈ lw_all := lw_g (lw_at lw_m6 1 rfl) rfl
theorem q1304 : (Jvm.Cond.fieldLink "GleanersForGapsModel" (50 : Nat) "GleanersForGapsModel" "shakenNow" "[I") ∈ lw_all := lw_g (lw_at lw_m6 2 rfl) rfl
theorem q1305 : (Jvm.Cond.fieldLink "GleanersForGapsModel" (53 : Nat) "GleanersForGapsModel" "was" "[I") ∈ lw_all := lw_g (lw_at lw_m6 3 rfl) rfl
theorem q1306 : (Jvm.Cond.fieldLink "GleanersForGapsModel" (312 : Nat) "GleanersForGapsModel" "bestDigits" "I") ∈ lw_all := lw_g (lw_at lw_m6 4 rfl) rfl
theorem q1307 : (Jvm.Cond.fieldLink "GleanersForGapsModel" (315 : Nat) "GleanersForGapsModel" "bestOf" "I") ∈ lw_all := lw_g (lw_at lw_m6 5 rfl) rfl
theorem q1308 : (Jvm.Cond.fieldLink "GleanersForGapsModel" (56 : Nat) "GleanersForGapsModel" "bitsKept" "[I") ∈ lw_all := lw_g (lw_at lw_m6 6 rfl) rfl
theorem q1309 : (Jvm.Cond.fieldLink "GleanersForGapsModel" (59 : Nat) "GleanersForGapsModel" "lengthKept" "[I") ∈ lw_all := lw_g (lw_at lw_m6 7 rfl) rfl
theorem q1310 : (Jvm.Cond.fieldLink "GleanersForGapsModel" (62 : Nat) "GleanersForGapsModel" "rowsKept" "[I") ∈ lw_all := lw_g (lw_at lw_m6 8 rfl) rfl
theorem q1311 : (Jvm.Cond.fieldLink "GleanersForGapsModel" (65 : Nat) "GleanersForGapsModel" "manyKept" "I") ∈ lw_all := lw_g (lw_at lw_m6 9 rfl) rfl
theorem q1312 : (Jvm.Cond.fieldLink "GleanersForGapsModel" (357 : Nat) "GleanersForGapsModel" "nightKept" "I") ∈ lw_all := lw_g (lw_at lw_m6 10 rfl) rfl
theorem q1313 : (Jvm.Cond.fieldLink "GleanersForGapsModel" (360 : Nat) "GleanersForGapsModel" "ruleKept" "I") ∈ lw_all := lw_g (lw_at lw_m6 11 rfl) rfl
theorem q1314 : (Jvm.Cond.fieldLink "GleanersForGapsModel" (68 : Nat) "GleanersForGapsModel" "isThere" "[Z") ∈ lw_all := lw_g (lw_at lw_m6 12 rfl) rfl
theorem q1315 : (Jvm.Cond.fieldLink "GleanersForGapsModel" (72 : Nat) "GleanersForGapsModel" "sorts" "[I") ∈ lw_all := lw_g (lw_at lw_m6 13 rfl) rfl
theorem q1316 : (Jvm.Cond.fieldLink "GleanersForGapsModel" (75 : Nat) "GleanersForGapsModel" "sheetSize" "[I") ∈ lw_all := lw_g (lw_at lw_m6 14 rfl) rfl
theorem q1317 : (Jvm.Cond.fieldLink "GleanersForGapsModel" (78 : Nat) "GleanersForGapsModel" "items" "[I") ∈ lw_all := lw_g (lw_at lw_m6 15 rfl) rfl
theorem q1318 : (Jvm.Cond.lays "GleanersForGapsModel" "GleanersForGapsModel" "thrown" "I") ∈ lw_all := lw_g (lw_at lw_m6 16 rfl) rfl
theorem q1319 : (Jvm.Cond.soleField "GleanersForGapsModel" "thrown") ∈ lw_all := lw_g (lw_at lw_m6 17 rfl) rfl
theorem q1320 : (Jvm.Cond.laysFinal "GleanersForGapsModel" "GleanersForGapsModel" "texts" "[I") ∈ lw_all := lw_g (lw_at lw_m6 18 rfl) rfl
theorem q1321 : (Jvm.Cond.soleField "GleanersForGapsModel" "texts") ∈ lw_all := lw_g (lw_at lw_m6 19 rfl) rfl
theorem q1322 : (Jvm.Cond.laysFinal "GleanersForGapsModel" "GleanersForGapsModel" "textSize" "[I") ∈ lw_all := lw_g (lw_at lw_m6 20 rfl) rfl
theorem q1323 : (Jvm.Cond.soleField "GleanersForGapsModel" "textSize") ∈ lw_all := lw_g (lw_at lw_m6 21 rfl) rfl
theorem q1324 : (Jvm.Cond.lays "GleanersForGapsModel" "GleanersForGapsModel" "textCount" "I") ∈ lw_all := lw_g (lw_at lw_m6 22 rfl) rfl
theorem q1325 : (Jvm.Cond.soleField "GleanersForGapsModel" "textCount") ∈ lw_all := lw_g (lw_at lw_m6 23 rfl) rfl
theorem q1326 : (Jvm.Cond.lays "GleanersForGapsModel" "GleanersForGapsModel" "rule" "I") ∈ lw_all := lw_g (lw_at lw_m6 24 rfl) rfl
theorem q1327 : (Jvm.Cond.soleField "GleanersForGapsModel" "rule") ∈ lw_all := lw_g (lw_at lw_m6 25 rfl) rfl
theorem q1328 : (Jvm.Cond.laysFinal "GleanersForGapsModel" "GleanersForGapsModel" "tape" "[I") ∈ lw_all := lw_g (lw_at lw_m6 26 rfl) rfl
theorem q1329 : (Jvm.Cond.soleField "GleanersForGapsModel" "tape") ∈ lw_all := lw_g (lw_at lw_m6 27 rfl) rfl
theorem q1330 : (Jvm.Cond.lays "GleanersForGapsModel" "GleanersForGapsModel" "taped" "I") ∈ lw_all := lw_g (lw_at lw_m6 28 rfl) rfl
theorem q1331 : (Jvm.Cond.soleField "GleanersForGapsModel" "taped") ∈ lw_all := lw_g (lw_at lw_m6 29 rfl) rfl
theorem q1332 : (Jvm.Cond.lays "GleanersForGapsModel" "GleanersForGapsModel" "nightNow" "I") ∈ lw_all := lw_g (lw_at lw_m6 30 rfl) rfl
theorem q1333 : (Jvm.Cond.soleField "GleanersForGapsModel" "nightNow") ∈ lw_all := lw_g (lw_at lw_m6 31 rfl) rfl
theorem q1334 : (Jvm.Cond.laysFinal "GleanersForGapsModel" "GleanersForGapsModel" "bits" "[I") ∈ lw_all := lw_g (lw_at lw_m6 32 rfl) rfl
theorem q1335 : (Jvm.Cond.soleField "GleanersForGapsModel" "bits") ∈ lw_all := lw_g (lw_at lw_m6 33 rfl) rfl
theorem q1336 : (Jvm.Cond.laysFinal "GleanersForGapsModel" "GleanersForGapsModel" "length" "[I") ∈ lw_all := lw_g (lw_at lw_m6 34 rfl) rfl
theorem q1337 : (Jvm.Cond.soleField "GleanersForGapsModel" "length") ∈ lw_all := lw_g (lw_at lw_m6 35 rfl) rfl
theorem q1338 : (Jvm.Cond.laysFinal "GleanersForGapsModel" "GleanersForGapsModel" "kinds" "[I") ∈ lw_all := lw_g (lw_at lw_m6 36 rfl) rfl
theorem q1339 : (Jvm.Cond.soleField "GleanersForGapsModel" "kinds") ∈ lw_all := lw_g (lw_at lw_m6 37 rfl) rfl
theorem q1340 : (Jvm.Cond.laysFinal "GleanersForGapsModel" "GleanersForGapsModel" "rows" "[I") ∈ lw_all := lw_g (lw_at lw_m6 38 rfl) rfl
theorem q1341 : (Jvm.Cond.soleField "GleanersForGapsModel" "rows") ∈ lw_all := lw_g (lw_at lw_m6 39 rfl) rfl
theorem q1342 : (Jvm.Cond.lays "GleanersForGapsModel" "GleanersForGapsModel" "many" "I") ∈ lw_all := lw_g (lw_at lw_m6 40 rfl) rfl
theorem q1343 : (Jvm.Cond.soleField "GleanersForGapsModel" "many") ∈ lw_all := lw_g (lw_at lw_m6 41 rfl) rfl
theorem q1344 : (Jvm.Cond.lays "GleanersForGapsModel" "GleanersForGapsModel" "ofGap" "I") ∈ lw_all := lw_g (lw_at lw_m6 42 rfl) rfl
theorem q1345 : (Jvm.Cond.soleField "GleanersForGapsModel" "ofGap") ∈ lw_all := lw_g (lw_at lw_m6 43 rfl) rfl
theorem q1346 : (Jvm.Cond.lays "GleanersForGapsModel" "GleanersForGapsModel" "ofNth" "I") ∈ lw_all := lw_g (lw_at lw_m6 44 rfl) rfl
theorem q1347 : (Jvm.Cond.soleField "GleanersForGapsModel" "ofNth") ∈ lw_all := lw_g (lw_at lw_m6 45 rfl) rfl
theorem q1348 : (Jvm.Cond.lays "GleanersForGapsModel" "GleanersForGapsModel" "ofNumber" "I") ∈ lw_all := lw_g (lw_at lw_m6 46 rfl) rfl
theorem q1349 : (Jvm.Cond.soleField "GleanersForGapsModel" "ofNumber") ∈ lw_all := lw_g (lw_at lw_m6 47 rfl) rfl
theorem q1350 : (Jvm.Cond.lays "GleanersForGapsModel" "GleanersForGapsModel" "ofNight" "I") ∈ lw_all := lw_g (lw_at lw_m6 48 rfl) rfl
theorem q1351 : (Jvm.Cond.soleField "GleanersForGapsModel" "ofNight") ∈ lw_all := lw_g (lw_at lw_m6 49 rfl) rfl
theorem q1352 : (Jvm.Cond.lays "GleanersForGapsModel" "GleanersForGapsModel" "ofApron" "I") ∈ lw_all := lw_g (lw_at lw_m6 50 rfl) rfl
theorem q1353 : (Jvm.Cond.soleField "GleanersForGapsModel" "ofApron") ∈ lw_all := lw_g (lw_at lw_m6 51 rfl) rfl
theorem q1354 : (Jvm.Cond.lays "GleanersForGapsModel" "GleanersForGapsModel" "ofRow" "I") ∈ lw_all := lw_g (lw_at lw_m6 52 rfl) rfl
theorem q1355 : (Jvm.Cond.soleField "GleanersForGapsModel" "ofRow") ∈ lw_all := lw_g (lw_at lw_m6 53 rfl) rfl
theorem q1356 : (Jvm.Cond.lays "GleanersForGapsModel" "GleanersForGapsModel" "from" "I") ∈ lw_all := lw_g (lw_at lw_m6 54 rfl) rfl
theorem q1357 : (Jvm.Cond.soleField "GleanersForGapsModel" "from") ∈ lw_all := lw_g (lw_at lw_m6 55 rfl) rfl
theorem q1358 : (Jvm.Cond.lays "GleanersForGapsModel" "GleanersForGapsModel" "size" "I") ∈ lw_all := lw_g (lw_at lw_m6 56 rfl) rfl
theorem q1359 : (Jvm.Cond.soleField "GleanersForGapsModel" "size") ∈ lw_all := lw_g (lw_at lw_m6 57 rfl) rfl
theorem q1360 : (Jvm.Cond.lays "GleanersForGapsModel" "GleanersForGapsModel" "here" "I") ∈ lw_all := lw_g (lw_at lw_m6 58 rfl) rfl
theorem q1361 : (Jvm.Cond.soleField "GleanersForGapsModel" "here") ∈ lw_all := lw_g (lw_at lw_m6 59 rfl) rfl
theorem q1362 : (Jvm.Cond.lays "GleanersForGapsModel" "GleanersForGapsModel" "token" "I") ∈ lw_all := lw_g (lw_at lw_m6 60 rfl) rfl
theorem q1363 : (Jvm.Cond.soleField "GleanersForGapsModel" "token") ∈ lw_all := lw_g (lw_at lw_m6 61 rfl) rfl
theorem q1364 : (Jvm.Cond.lays "GleanersForGapsModel" "GleanersForGapsModel" "tokenAt" "I") ∈ lw_all := lw_g (lw_at lw_m6 62 rfl) rfl
theorem q1365 : (Jvm.Cond.soleField "GleanersForGapsModel" "tokenAt") ∈ lw_all := lw_g (lw_at lw_m6 63 rfl) rfl
theorem q1366 : (Jvm.Cond.lays "GleanersForGapsModel" "GleanersForGapsModel" "tokenWorth" "J") ∈ lw_all := lw_g (lw_at lw_m6 64 rfl) rfl
theorem q1367 : (Jvm.Cond.soleField "GleanersForGapsModel" "tokenWorth") ∈ lw_all := lw_g (lw_at lw_m6 65 rfl) rfl
theorem q1368 : (Jvm.Cond.lays "GleanersForGapsModel" "GleanersForGapsModel" "open" "I") ∈ lw_all := lw_g (lw_at lw_m6 66 rfl) rfl
theorem q1369 : (Jvm.Cond.soleField "GleanersForGapsModel" "open") ∈ lw_all := lw_g (lw_at lw_m6 67 rfl) rfl
theorem q1370 : (Jvm.Cond.lays "GleanersForGapsModel" "GleanersForGapsModel" "bad" "Z") ∈ lw_all := lw_g (lw_at lw_m6 68 rfl) rfl
theorem q1371 : (Jvm.Cond.soleField "GleanersForGapsModel" "bad") ∈ lw_all := lw_g (lw_at lw_m6 69 rfl) rfl
theorem q1372 : (Jvm.Cond.lays "GleanersForGapsModel" "GleanersForGapsModel" "fault" "I") ∈ lw_all := lw_g (lw_at lw_m6 70 rfl) rfl
theorem q1373 : (Jvm.Cond.soleField "GleanersForGapsModel" "fault") ∈ lw_all := lw_g (lw_at lw_m6 71 rfl) rfl
theorem q1374 : (Jvm.Cond.laysFinal "GleanersForGapsModel" "GleanersForGapsModel" "begins" "[I") ∈ lw_all := lw_g (lw_at lw_m6 72 rfl) rfl
theorem q1375 : (Jvm.Cond.soleField "GleanersForGapsModel" "begins") ∈ lw_all := lw_g (lw_at lw_m6 73 rfl) rfl
theorem q1376 : (Jvm.Cond.laysFinal "GleanersForGapsModel" "GleanersForGapsModel" "sizes" "[I") ∈ lw_all := lw_g (lw_at lw_m6 74 rfl) rfl
theorem q1377 : (Jvm.Cond.soleField "GleanersForGapsModel" "sizes") ∈ lw_all := lw_g (lw_at lw_m6 75 rfl) rfl
theorem q1378 : (Jvm.Cond.laysFinal "GleanersForGapsModel" "GleanersForGapsModel" "takes1" "[I") ∈ lw_all := lw_g (lw_at lw_m6 76 rfl) rfl
theorem q1379 : (Jvm.Cond.soleField "GleanersForGapsModel" "takes1") ∈ lw_all := lw_g (lw_at lw_m6 77 rfl) rfl
theorem q1380 : (Jvm.Cond.laysFinal "GleanersForGapsModel" "GleanersForGapsModel" "digitOf" "[I") ∈ lw_all := lw_g (lw_at lw_m6 78 rfl) rfl
theorem q1381 : (Jvm.Cond.soleField "GleanersForGapsModel" "digitOf") ∈ lw_all := lw_g (lw_at lw_m6 79 rfl) rfl
theorem q1382 : (Jvm.Cond.laysFinal "GleanersForGapsModel" "GleanersForGapsModel" "keptNow" "[I") ∈ lw_all := lw_g (lw_at lw_m6 80 rfl) rfl
theorem q1383 : (Jvm.Cond.soleField "GleanersForGapsModel" "keptNow") ∈ lw_all := lw_g (lw_at lw_m6 81 rfl) rfl
theorem q1384 : (Jvm.Cond.laysFinal "GleanersForGapsModel" "GleanersForGapsModel" "shakenNow" "[I") ∈ lw_all := lw_g (lw_at lw_m6 82 rfl) rfl
theorem q1385 : (Jvm.Cond.soleField "GleanersForGapsModel" "shakenNow") ∈ lw_all := lw_g (lw_at lw_m6 83 rfl) rfl
theorem q1386 : (Jvm.Cond.laysFinal "GleanersForGapsModel" "GleanersForGapsModel" "was" "[I") ∈ lw_all := lw_g (lw_at lw_m6 84 rfl) rfl
theorem q1387 : (Jvm.Cond.soleField "GleanersForGapsModel" "was") ∈ lw_all := lw_g (lw_at lw_m6 85 rfl) rfl
theorem q1388 : (Jvm.Cond.lays "GleanersForGapsModel" "GleanersForGapsModel" "bestDigits" "I") ∈ lw_all := lw_g (lw_at lw_m6 86 rfl) rfl
theorem q1389 : (Jvm.Cond.soleField "GleanersForGapsModel" "bestDigits") ∈ lw_all := lw_g (lw_at lw_m6 87 rfl) rfl
theorem q1390 : (Jvm.Cond.lays "GleanersForGapsModel" "GleanersForGapsModel" "bestOf" "I") ∈ lw_all := lw_g (lw_at lw_m6 88 rfl) rfl
theorem q1391 : (Jvm.Cond.soleField "GleanersForGapsModel" "bestOf") ∈ lw_all := lw_g (lw_at lw_m6 89 rfl) rfl
theorem q1392 : (Jvm.Cond.laysFinal "GleanersForGapsModel" "GleanersForGapsModel" "bitsKept" "[I") ∈ lw_all := lw_g (lw_at lw_m6 90 rfl) rfl
theorem q1393 : (Jvm.Cond.soleField "GleanersForGapsModel" "bitsKept") ∈ lw_all := lw_g (lw_at lw_m6 91 rfl) rfl
theorem q1394 : (Jvm.Cond.laysFinal "GleanersForGapsModel" "GleanersForGapsModel" "lengthKept" "[I") ∈ lw_all := lw_g (lw_at lw_m6 92 rfl) rfl
theorem q1395 : (Jvm.Cond.soleField "GleanersForGapsModel" "lengthKept") ∈ lw_all := lw_g (lw_at lw_m6 93 rfl) rfl
theorem q1396 : (Jvm.Cond.laysFinal "GleanersForGapsModel" "GleanersForGapsModel" "rowsKept" "[I") ∈ lw_all := lw_g (lw_at lw_m6 94 rfl) rfl
theorem q1397 : (Jvm.Cond.soleField "GleanersForGapsModel" "rowsKept") ∈ lw_all := lw_g (lw_at lw_m6 95 rfl) rfl
theorem q1398 : (Jvm.Cond.lays "GleanersForGapsModel" "GleanersForGapsModel" "manyKept" "I") ∈ lw_all := lw_g (lw_at lw_m6 96 rfl) rfl
theorem q1399 : (Jvm.Cond.soleField "GleanersForGapsModel" "manyKept") ∈ lw_all := lw_g (lw_at lw_m6 97 rfl) rfl
theorem q1400 : (Jvm.Cond.lays "GleanersForGapsModel" "GleanersForGapsModel" "nightKept" "I") ∈ lw_all := lw_g (lw_at lw_m6 98 rfl) rfl
theorem q1401 : (Jvm.Cond.soleField "GleanersForGapsModel" "nightKept") ∈ lw_all := lw_g (lw_at lw_m6 99 rfl) rfl
theorem q1402 : (Jvm.Cond.lays "GleanersForGapsModel" "GleanersForGapsModel" "ruleKept" "I") ∈ lw_all := lw_g (lw_at lw_m6 100 rfl) rfl
theorem q1403 : (Jvm.Cond.soleField "GleanersForGapsModel" "ruleKept") ∈ lw_all := lw_g (lw_at lw_m6 101 rfl) rfl
theorem q1404 : (Jvm.Cond.laysFinal "GleanersForGapsModel" "GleanersForGapsModel" "isThere" "[Z") ∈ lw_all := lw_g (lw_at lw_m6 102 rfl) rfl
theorem q1405 : (Jvm.Cond.soleField "GleanersForGapsModel" "isThere") ∈ lw_all := lw_g (lw_at lw_m6 103 rfl) rfl
theorem q1406 : (Jvm.Cond.laysFinal "GleanersForGapsModel" "GleanersForGapsModel" "sorts" "[I") ∈ lw_all := lw_g (lw_at lw_m6 104 rfl) rfl
theorem q1407 : (Jvm.Cond.soleField "GleanersForGapsModel" "sorts") ∈ lw_all := lw_g (lw_at lw_m6 105 rfl) rfl
theorem q1408 : (Jvm.Cond.laysFinal "GleanersForGapsModel" "GleanersForGapsModel" "sheetSize" "[I") ∈ lw_all := lw_g (lw_at lw_m6 106 rfl) rfl
theorem q1409 : (Jvm.Cond.soleField "GleanersForGapsModel" "sheetSize") ∈ lw_all := lw_g (lw_at lw_m6 107 rfl) rfl
theorem q1410 : (Jvm.Cond.laysFinal "GleanersForGapsModel" "GleanersForGapsModel" "items" "[I") ∈ lw_all := lw_g (lw_at lw_m6 108 rfl) rfl
theorem q1411 : (Jvm.Cond.soleField "GleanersForGapsModel" "items") ∈ lw_all := lw_g (lw_at lw_m6 109 rfl) rfl
theorem q1412 : (Jvm.Cond.superclass "GleanersForGapsModel" "java/lang/Object") ∈ lw_all := lw_g (lw_at lw_m6 110 rfl) rfl
theorem q1415 : (Jvm.Cond.instanceMethod ({ cls := "GleanersForGapsModel", name := "lay", desc := "(III)I" } : Jvm.MethodName)) ∈ lw_all := lw_g (lw_at lw_m6 113 rfl) rfl
theorem q1416 : (Jvm.Cond.selects "GleanersForGapsModel" ({ cls := "GleanersForGapsModel", name := "lay", desc := "(III)I" } : Jvm.MethodName) ({ cls := "GleanersForGapsModel", name := "lay", desc := "(III)I" } : Jvm.MethodName)) ∈ lw_all := lw_g (lw_at lw_m6 114 rfl) rfl
theorem q1417 : (Jvm.Cond.code ({ cls := "GleanersForGapsModel", name := "lay", desc := "(III)I" } : Jvm.MethodName) prog_16_method_8_code (4 : Nat) (Option.some Jvm.ClassFile.FieldType.int)) ∈ lw_all := lw_g (lw_at lw_m6 115 rfl) rfl
theorem q1418 : (Jvm.Cond.methodLink "GleanersForGapsModel" (97 : Nat) ({ cls := "GleanersForGapsModel", name := "isRow", desc := "(I)Z" } : Jvm.MethodName)) ∈ lw_all := lw_g (lw_at lw_m6 116 rfl) rfl
theorem q1419 : (Jvm.Cond.static ({ cls := "GleanersForGapsModel", name := "isRow", desc := "(I)Z" } : Jvm.MethodName)) ∈ lw_all := lw_g (lw_at lw_m6 117 rfl) rfl
theorem q1420 : (Jvm.Cond.code ({ cls := "GleanersForGapsModel", name := "isRow", desc := "(I)Z" } : Jvm.MethodName) prog_16_method_7_code (1 : Nat) (Option.some Jvm.ClassFile.FieldType.boolean)) ∈ lw_all := lw_g (lw_at lw_m6 118 rfl) rfl
theorem q1421 : (Jvm.Cond.constantLong "GleanersForGapsModel" (95 : Nat) (3 : Int64)) ∈ lw_all := lw_g (lw_at lw_m6 119 rfl) rfl
theorem q1422 : (Jvm.Cond.methodLink "GleanersForGapsModel" (91 : Nat) ({ cls := "GleanersForGapsModel", name := "in", desc := "(JJJ)Z" } : Jvm.MethodName)) ∈ lw_all := lw_g (lw_at lw_m6 120 rfl) rfl
theorem q1423 : (Jvm.Cond.static ({ cls := "GleanersForGapsModel", name := "in", desc := "(JJJ)Z" } : Jvm.MethodName)) ∈ lw_all := lw_g (lw_at lw_m6 121 rfl) rfl
theorem q1424 : (Jvm.Cond.code ({ cls := "GleanersForGapsModel", name := "in", desc := "(JJJ)Z" } : Jvm.MethodName) prog_16_method_2_code (6 : Nat) (Option.some Jvm.ClassFile.FieldType.boolean)) ∈ lw_all := lw_g (lw_at lw_m6 122 rfl) rfl
theorem q1425 : (Jvm.Cond.constantLong "GleanersForGapsModel" (101 : Nat) (24 : Int64)) ∈ lw_all := lw_g (lw_at lw_m6 123 rfl) rfl
theorem q1426 : (Jvm.Cond.methodLink "GleanersForGapsModel" (103 : Nat) ({ cls := "GleanersForGapsModel", name := "leftOf", desc := "(I)I" } : Jvm.MethodName)) ∈ lw_all := lw_g (lw_at lw_m6 124 rfl) rfl
theorem q1427 : (Jvm.Cond.privateMethod ({ cls := "GleanersForGapsModel", name := "leftOf", desc := "(I)I" } : Jvm.MethodName)) ∈ lw_tbl := lw_at lw_m6 125 rfl
theorem q1428 : (Jvm.Cond.instanceMethod ({ cls := "GleanersForGapsModel", name := "leftOf", desc := "(I)I" } : Jvm.MethodName)) ∈ lw_all := lw_g (lw_at lw_m6 126 rfl) rfl
theorem q1429 : (Jvm.Cond.code ({ cls := "GleanersForGapsModel", name := "leftOf", desc := "(I)I" } : Jvm.MethodName) prog_16_method_10_code (2 : Nat) (Option.some Jvm.ClassFile.FieldType.int)) ∈ lw_all := lw_g (lw_at lw_m6 127 rfl) rfl
theorem q1430 : (Jvm.Cond.methodLink "GleanersForGapsModel" (107 : Nat) ({ cls := "GleanersForGapsModel", name := "bitsOf", desc := "(I)I" } : Jvm.MethodName)) ∈ lw_all := lw_g (lw_at lw_m6 128 rfl) rfl
theorem q1431 : (Jvm.Cond.static ({ cls := "GleanersForGapsModel", name := "bitsOf", desc := "(I)I" } : Jvm.MethodName)) ∈ lw_all := lw_g (lw_at lw_m6 129 rfl) rfl
theorem q1432 : (Jvm.Cond.code ({ cls := "GleanersForGapsModel", name := "bitsOf", desc := "(I)I" } : Jvm.MethodName) prog_16_method_9_code (3 : Nat) (Option.some Jvm.ClassFile.FieldType.int)) ∈ lw_all := lw_g (lw_at lw_m6 130 rfl) rfl
theorem q1434 : (Jvm.Cond.instanceMethod ({ cls := "GleanersForGapsModel", name := "set", desc := "(III)I" } : Jvm.MethodName)) ∈ lw_all := lw_g (lw_at lw_m6 132 rfl) rfl
theorem q1435 : (Jvm.Cond.selects "GleanersForGapsModel" ({ cls := "GleanersForGapsModel", name := "set", desc := "(III)I" } : Jvm.MethodName) ({ cls := "GleanersForGapsModel", name := "set", desc := "(III)I" } : Jvm.MethodName)) ∈ lw_all := lw_g (lw_at lw_m6 133 rfl) rfl
theorem q1436 : (Jvm.Cond.code ({ cls := "GleanersForGapsModel", name := "set", desc := "(III)I" } : Jvm.MethodName) prog_16_method_12_code (5 : Nat) (Option.some Jvm.ClassFile.FieldType.int)) ∈ lw_all := lw_g (lw_at lw_m6 134 rfl) rfl
theorem q1437 : (Jvm.Cond.constantLong "GleanersForGapsModel" (110 : Nat) (2 : Int64)) ∈ lw_all := lw_g (lw_at lw_m6 135 rfl) rfl
theorem q1438 : (Jvm.Cond.methodLink "GleanersForGapsModel" (112 : Nat) ({ cls := "GleanersForGapsModel", name := "isOne", desc := "(I)Z" } : Jvm.MethodName)) ∈ lw_all := lw_g (lw_at lw_m6 136 rfl) rfl
theorem q1439 : (Jvm.Cond.privateMethod ({ cls := "GleanersForGapsModel", name := "isOne", desc := "(I)Z" } : Jvm.MethodName)) ∈ lw_tbl := lw_at lw_m6 137 rfl
theorem q1440 : (Jvm.Cond.instanceMethod ({ cls := "GleanersForGapsModel", name := "isOne", desc := "(I)Z" } : Jvm.MethodName)) ∈ lw_all := lw_g (lw_at lw_m6 138 rfl) rfl
theorem q1441 : (Jvm.Cond.code ({ cls := "GleanersForGapsModel", name := "isOne", desc := "(I)Z" } : Jvm.MethodName) prog_16_method_6_code (2 : Nat) (Option.some Jvm.ClassFile.FieldType.boolean)) ∈ lw_all := lw_g (lw_at lw_m6 139 rfl) rfl
theorem q1442 : (Jvm.Cond.methodLink "GleanersForGapsModel" (115 : Nat) ({ cls := "GleanersForGapsModel", name := "mostOf", desc := "(I)I" } : Jvm.MethodName)) ∈ lw_all := lw_g (lw_at lw_m6 140 rfl) rfl
theorem q1443 : (Jvm.Cond.static ({ cls := "GleanersForGapsModel", name := "mostOf", desc := "(I)I" } : Jvm.MethodName)) ∈ lw_all := lw_g (lw_at lw_m6 141 rfl) rfl
theorem q1444 : (Jvm.Cond.code ({ cls := "GleanersForGapsModel", name := "mostOf", desc := "(I)I" } : Jvm.MethodName) prog_16_method_11_code (1 : Nat) (Option.some Jvm.ClassFile.FieldType.int)) ∈ lw_all := lw_g (lw_at lw_m6 142 rfl) rfl
theorem q1445 : (Jvm.Cond.methodLink "GleanersForGapsModel" (118 : Nat) ({ cls := "GleanersForGapsModel", name := "told", desc := "(II)I" } : Jvm.MethodName)) ∈ lw_all := lw_g (lw_at lw_m6 143 rfl) rfl
theorem q1446 : (Jvm.Cond.instanceMethod ({ cls := "GleanersForGapsModel", name := "told", desc := "(II)I" } : Jvm.MethodName)) ∈ lw_all := lw_g (lw_at lw_m6 144 rfl) rfl
theorem q1447 : (Jvm.Cond.selects "GleanersForGapsModel" ({ cls := "GleanersForGapsModel", name := "told", desc := "(II)I" } : Jvm.MethodName) ({ cls := "GleanersForGapsModel", name := "told", desc := "(II)I" } : Jvm.MethodName)) ∈ lw_all := lw_g (lw_at lw_m6 145 rfl) rfl
theorem q1448 : (Jvm.Cond.code ({ cls := "GleanersForGapsModel", name := "told", desc := "(II)I" } : Jvm.MethodName) prog_16_method_15_code (3 : Nat) (Option.some Jvm.ClassFile.FieldType.int)) ∈ lw_all := lw_g (lw_at lw_m6 146 rfl) rfl
theorem q1449 : (Jvm.Cond.constantLong "GleanersForGapsModel" (136 : Nat) (10 : Int64)) ∈ lw_all := lw_g (lw_at lw_m6 147 rfl) rfl
theorem q1450 : (Jvm.Cond.methodLink "GleanersForGapsModel" (138 : Nat) ({ cls := "GleanersForGapsModel", name := "keepsOf", desc := "(I)I" } : Jvm.MethodName)) ∈ lw_all := lw_g (lw_at lw_m6 148 rfl) rfl
theorem q1451 : (Jvm.Cond.privateMethod ({ cls := "GleanersForGapsModel", name := "keepsOf", desc := "(I)I" } : Jvm.MethodName)) ∈ lw_tbl := lw_at lw_m6 149 rfl
theorem q1452 : (Jvm.Cond.instanceMethod ({ cls := "GleanersForGapsModel", name := "keepsOf", desc := "(I)I" } : Jvm.MethodName)) ∈ lw_all := lw_g (lw_at lw_m6 150 rfl) rfl
theorem q1453 : (Jvm.Cond.code ({ cls := "GleanersForGapsModel", name := "keepsOf", desc := "(I)I" } : Jvm.MethodName) prog_16_method_37_code (6 : Nat) (Option.some Jvm.ClassFile.FieldType.int)) ∈ lw_all := lw_g (lw_at lw_m6 151 rfl) rfl
theorem q1454 : (Jvm.Cond.methodLink "GleanersForGapsModel" (271 : Nat) ({ cls := "GleanersForGapsModel", name := "says", desc := "(IIIIII)I" } : Jvm.MethodName)) ∈ lw_all := lw_g (lw_at lw_m6 152 rfl) rfl
theorem q1455 : (Jvm.Cond.privateMethod ({ cls := "GleanersForGapsModel", name := "says", desc := "(IIIIII)I" } : Jvm.MethodName)) ∈ lw_tbl := lw_at lw_m6 153 rfl
theorem q1456 : (Jvm.Cond.instanceMethod ({ cls := "GleanersForGapsModel", name := "says", desc := "(IIIIII)I" } : Jvm.MethodName)) ∈ lw_all := lw_g (lw_at lw_m6 154 rfl) rfl
theorem q1457 : (Jvm.Cond.code ({ cls := "GleanersForGapsModel", name := "says", desc := "(IIIIII)I" } : Jvm.MethodName) prog_16_method_35_code (7 : Nat) (Option.some Jvm.ClassFile.FieldType.int)) ∈ lw_all := lw_g (lw_at lw_m6 155 rfl) rfl
theorem q1458 : (Jvm.Cond.methodLink "GleanersForGapsModel" (264 : Nat) ({ cls := "GleanersForGapsModel", name := "read", desc := "(II)I" } : Jvm.MethodName)) ∈ lw_all := lw_g (lw_at lw_m6 156 rfl) rfl
theorem q1459 : (Jvm.Cond.privateMethod ({ cls := "GleanersForGapsModel", name := "read", desc := "(II)I" } : Jvm.MethodName)) ∈ lw_tbl := lw_at lw_m6 157 rfl
theorem q1460 : (Jvm.Cond.instanceMethod ({ cls := "GleanersForGapsModel", name := "read", desc := "(II)I" } : Jvm.MethodName)) ∈ lw_all := lw_g (lw_at lw_m6 158 rfl) rfl
theorem q1461 : (Jvm.Cond.code ({ cls := "GleanersForGapsModel", name := "read", desc := "(II)I" } : Jvm.MethodName) prog_16_method_32_code (6 : Nat) (Option.some Jvm.ClassFile.FieldType.int)) ∈ lw_all := lw_g (lw_at lw_m6 159 rfl) rfl
theorem q1462 : (Jvm.Cond.methodLink "GleanersForGapsModel" (202 : Nat) ({ cls := "GleanersForGapsModel", name := "next", desc := "()V" } : Jvm.MethodName)) ∈ lw_all := lw_g (lw_at lw_m6 160 rfl) rfl
theorem q1463 : (Jvm.Cond.privateMethod ({ cls := "GleanersForGapsModel", name := "next", desc := "()V" } : Jvm.MethodName)) ∈ lw_tbl := lw_at lw_m6 161 rfl
theorem q1464 : (Jvm.Cond.instanceMethod ({ cls := "GleanersForGapsModel", name := "next", desc := "()V" } : Jvm.MethodName)) ∈ lw_all := lw_g (lw_at lw_m6 162 rfl) rfl
theorem q1465 : (Jvm.Cond.code ({ cls := "GleanersForGapsModel", name := "next", desc := "()V" } : Jvm.MethodName) prog_16_method_18_code (3 : Nat) (Option.none : Option Jvm.ClassFile.FieldType)) ∈ lw_all := lw_g (lw_at lw_m6 163 rfl) rfl
theorem q1466 : (Jvm.Cond.methodLink "GleanersForGapsModel" (164 : Nat) ({ cls := "GleanersForGapsModel", name := "byteAt", desc := "(I)I" } : Jvm.MethodName)) ∈ lw_all := lw_g (lw_at lw_m6 164 rfl) rfl
theorem q1467 : (Jvm.Cond.privateMethod ({ cls := "GleanersForGapsModel", name := "byteAt", desc := "(I)I" } : Jvm.MethodName)) ∈ lw_tbl := lw_at lw_m6 165 rfl
theorem q1468 : (Jvm.Cond.instanceMethod ({ cls := "GleanersForGapsModel", name := "byteAt", desc := "(I)I" } : Jvm.MethodName)) ∈ lw_all := lw_g (lw_at lw_m6 166 rfl) rfl
theorem q1469 : (Jvm.Cond.code ({ cls := "GleanersForGapsModel", name := "byteAt", desc := "(I)I" } : Jvm.MethodName) prog_16_method_17_code (2 : Nat) (Option.some Jvm.ClassFile.FieldType.int)) ∈ lw_all := lw_g (lw_at lw_m6 167 rfl) rfl
theorem q1470 : (Jvm.Cond.constantLong "GleanersForGapsModel" (173 : Nat) (97 : Int64)) ∈ lw_all := lw_g (lw_at lw_m6 168 rfl) rfl
theorem q1471 : (Jvm.Cond.constantLong "GleanersForGapsModel" (175 : Nat) (122 : Int64)) ∈ lw_all := lw_g (lw_at lw_m6 169 rfl) rfl
theorem q1472 : (Jvm.Cond.constantLong "GleanersForGapsModel" (177 : Nat) (48 : Int64)) ∈ lw_all := lw_g (lw_at lw_m6 170 rfl) rfl
theorem q1473 : (Jvm.Cond.constantLong "GleanersForGapsModel" (179 : Nat) (57 : Int64)) ∈ lw_all := lw_g (lw_at lw_m6 171 rfl) rfl
theorem q1474 : (Jvm.Cond.methodLink "GleanersForGapsModel" (205 : Nat) ({ cls := "GleanersForGapsModel", name := "isWord", desc := "(IIIIIIII)Z" } : Jvm.MethodName)) ∈ lw_all := lw_g (lw_at lw_m6 172 rfl) rfl
theorem q1475 : (Jvm.Cond.privateMethod ({ cls := "GleanersForGapsModel", name := "isWord", desc := "(IIIIIIII)Z" } : Jvm.MethodName)) ∈ lw_tbl := lw_at lw_m6 173 rfl
theorem q1476 : (Jvm.Cond.instanceMethod ({ cls := "GleanersForGapsModel", name := "isWord", desc := "(IIIIIIII)Z" } : Jvm.MethodName)) ∈ lw_all := lw_g (lw_at lw_m6 174 rfl) rfl
theorem q1477 : (Jvm.Cond.code ({ cls := "GleanersForGapsModel", name := "isWord", desc := "(IIIIIIII)Z" } : Jvm.MethodName) prog_16_method_21_code (9 : Nat) (Option.some Jvm.ClassFile.FieldType.boolean)) ∈ lw_all := lw_g (lw_at lw_m6 175 rfl) rfl
theorem q1478 : (Jvm.Cond.methodLink "GleanersForGapsModel" (192 : Nat) ({ cls := "GleanersForGapsModel", name := "isLetter", desc := "(II)Z" } : Jvm.MethodName)) ∈ lw_all := lw_g (lw_at lw_m6 176 rfl) rfl
theorem q1479 : (Jvm.Cond.privateMethod ({ cls := "GleanersForGapsModel", name := "isLetter", desc := "(II)Z" } : Jvm.MethodName)) ∈ lw_tbl := lw_at lw_m6 177 rfl
theorem q1480 : (Jvm.Cond.instanceMethod ({ cls := "GleanersForGapsModel", name := "isLetter", desc := "(II)Z" } : Jvm.MethodName)) ∈ lw_all := lw_g (lw_at lw_m6 178 rfl) rfl
theorem q1481 : (Jvm.Cond.code ({ cls := "GleanersForGapsModel", name := "isLetter", desc := "(II)Z" } : Jvm.MethodName) prog_16_method_20_code (3 : Nat) (Option.some Jvm.ClassFile.FieldType.boolean)) ∈ lw_all := lw_g (lw_at lw_m6 179 rfl) rfl
theorem q1482 : (Jvm.Cond.methodLink "GleanersForGapsModel" (260 : Nat) ({ cls := "GleanersForGapsModel", name := "part", desc := "(Z)I" } : Jvm.MethodName)) ∈ lw_all := lw_g (lw_at lw_m6 180 rfl) rfl
theorem q1483 : (Jvm.Cond.privateMethod ({ cls := "GleanersForGapsModel", name := "part", desc := "(Z)I" } : Jvm.MethodName)) ∈ lw_tbl := lw_at lw_m6 181 rfl
theorem q1484 : (Jvm.Cond.instanceMethod ({ cls := "GleanersForGapsModel", name := "part", desc := "(Z)I" } : Jvm.MethodName)) ∈ lw_all := lw_g (lw_at lw_m6 182 rfl) rfl
theorem q1485 : (Jvm.Cond.code ({ cls := "GleanersForGapsModel", name := "part", desc := "(Z)I" } : Jvm.MethodName) prog_16_method_31_code (3 : Nat) (Option.some Jvm.ClassFile.FieldType.int)) ∈ lw_all := lw_g (lw_at lw_m6 183 rfl) rfl
theorem q1486 : (Jvm.Cond.methodLink "GleanersForGapsModel" (199 : Nat) ({ cls := "GleanersForGapsModel", name := "fail", desc := "()V" } : Jvm.MethodName)) ∈ lw_all := lw_g (lw_at lw_m6 184 rfl) rfl
theorem q1487 : (Jvm.Cond.privateMethod ({ cls := "GleanersForGapsModel", name := "fail", desc := "()V" } : Jvm.MethodName)) ∈ lw_tbl := lw_at lw_m6 185 rfl
theorem q1488 : (Jvm.Cond.instanceMethod ({ cls := "GleanersForGapsModel", name := "fail", desc := "()V" } : Jvm.MethodName)) ∈ lw_all := lw_g (lw_at lw_m6 186 rfl) rfl
theorem q1489 : (Jvm.Cond.code ({ cls := "GleanersForGapsModel", name := "fail", desc := "()V" } : Jvm.MethodName) prog_16_method_19_code (1 : Nat) (Option.none : Option Jvm.ClassFile.FieldType)) ∈ lw_all := lw_g (lw_at lw_m6 187 rfl) rfl
theorem q1490 : (Jvm.Cond.methodLink "GleanersForGapsModel" (238 : Nat) ({ cls := "GleanersForGapsModel", name := "either", desc := "()I" } : Jvm.MethodName)) ∈ lw_all := lw_g (lw_at lw_m6 188 rfl) rfl
theorem q1491 : (Jvm.Cond.privateMethod ({ cls := "GleanersForGapsModel", name := "either", desc := "()I" } : Jvm.MethodName)) ∈ lw_tbl := lw_at lw_m6 189 rfl
theorem q1492 : (Jvm.Cond.instanceMethod ({ cls := "GleanersForGapsModel", name := "either", desc := "()I" } : Jvm.MethodName)) ∈ lw_all := lw_g (lw_at lw_m6 190 rfl) rfl
theorem q1493 : (Jvm.Cond.code ({ cls := "GleanersForGapsModel", name := "either", desc := "()I" } : Jvm.MethodName) prog_16_method_30_code (3 : Nat) (Option.some Jvm.ClassFile.FieldType.int)) ∈ lw_all := lw_g (lw_at lw_m6 191 rfl) rfl
theorem q1494 : (Jvm.Cond.methodLink "GleanersForGapsModel" (257 : Nat) ({ cls := "GleanersForGapsModel", name := "both", desc := "()I" } : Jvm.MethodName)) ∈ lw_all := lw_g (lw_at lw_m6 192 rfl) rfl
theorem q1495 : (Jvm.Cond.privateMethod ({ cls := "GleanersForGapsModel", name := "both", desc := "()I" } : Jvm.MethodName)) ∈ lw_tbl := lw_at lw_m6 193 rfl
theorem q1496 : (Jvm.Cond.instanceMethod ({ cls := "GleanersForGapsModel", name := "both", desc := "()I" } : Jvm.MethodName)) ∈ lw_all := lw_g (lw_at lw_m6 194 rfl) rfl
theorem q1497 : (Jvm.Cond.code ({ cls := "GleanersForGapsModel", name := "both", desc := "()I" } : Jvm.MethodName) prog_16_method_29_code (3 : Nat) (Option.some Jvm.ClassFile.FieldType.int)) ∈ lw_all := lw_g (lw_at lw_m6 195 rfl) rfl
theorem q1498 : (Jvm.Cond.methodLink "GleanersForGapsModel" (249 : Nat) ({ cls := "GleanersForGapsModel", name := "not", desc := "()I" } : Jvm.MethodName)) ∈ lw_all := lw_g (lw_at lw_m6 196 rfl) rfl
theorem q1499 : (Jvm.Cond.privateMethod ({ cls := "GleanersForGapsModel", name := "not", desc := "()I" } : Jvm.MethodName)) ∈ lw_tbl := lw_at lw_m6 197 rfl
theorem q1500 : (Jvm.Cond.instanceMethod ({ cls := "GleanersForGapsModel", name := "not", desc := "()I" } : Jvm.MethodName)) ∈ lw_all := lw_g (lw_at lw_m6 198 rfl) rfl
theorem q1501 : (Jvm.Cond.code ({ cls := "GleanersForGapsModel", name := "not", desc := "()I" } : Jvm.MethodName) prog_16_method_28_code (4 : Nat) (Option.some Jvm.ClassFile.FieldType.int)) ∈ lw_all := lw_g (lw_at lw_m6 199 rfl) rfl
theorem q1502 : (Jvm.Cond.methodLink "GleanersForGapsModel" (230 : Nat) ({ cls := "GleanersForGapsModel", name := "opens", desc := "()Z" } : Jvm.MethodName)) ∈ lw_all := lw_g (lw_at lw_m6 200 rfl) rfl
theorem q1503 : (Jvm.Cond.privateMethod ({ cls := "GleanersForGapsModel", name := "opens", desc := "()Z" } : Jvm.MethodName)) ∈ lw_tbl := lw_at lw_m6 201 rfl
theorem q1504 : (Jvm.Cond.instanceMethod ({ cls := "GleanersForGapsModel", name := "opens", desc := "()Z" } : Jvm.MethodName)) ∈ lw_all := lw_g (lw_at lw_m6 202 rfl) rfl
theorem q1505 : (Jvm.Cond.code ({ cls := "GleanersForGapsModel", name := "opens", desc := "()Z" } : Jvm.MethodName) prog_16_method_23_code (1 : Nat) (Option.some Jvm.ClassFile.FieldType.boolean)) ∈ lw_all := lw_g (lw_at lw_m6 203 rfl) rfl
theorem q1506 : (Jvm.Cond.methodLink "GleanersForGapsModel" (252 : Nat) ({ cls := "GleanersForGapsModel", name := "added", desc := "()I" } : Jvm.MethodName)) ∈ lw_all := lw_g (lw_at lw_m6 204 rfl) rfl
theorem q1507 : (Jvm.Cond.privateMethod ({ cls := "GleanersForGapsModel", name := "added", desc := "()I" } : Jvm.MethodName)) ∈ lw_tbl := lw_at lw_m6 205 rfl
theorem q1508 : (Jvm.Cond.instanceMethod ({ cls := "GleanersForGapsModel", name := "added", desc := "()I" } : Jvm.MethodName)) ∈ lw_all := lw_g (lw_at lw_m6 206 rfl) rfl
theorem q1509 : (Jvm.Cond.code ({ cls := "GleanersForGapsModel", name := "added", desc := "()I" } : Jvm.MethodName) prog_16_method_27_code (4 : Nat) (Option.some Jvm.ClassFile.FieldType.int)) ∈ lw_all := lw_g (lw_at lw_m6 207 rfl) rfl
theorem q1510 : (Jvm.Cond.methodLink "GleanersForGapsModel" (244 : Nat) ({ cls := "GleanersForGapsModel", name := "term", desc := "()I" } : Jvm.MethodName)) ∈ lw_all := lw_g (lw_at lw_m6 208 rfl) rfl
theorem q1511 : (Jvm.Cond.privateMethod ({ cls := "GleanersForGapsModel", name := "term", desc := "()I" } : Jvm.MethodName)) ∈ lw_tbl := lw_at lw_m6 209 rfl
theorem q1512 : (Jvm.Cond.instanceMethod ({ cls := "GleanersForGapsModel", name := "term", desc := "()I" } : Jvm.MethodName)) ∈ lw_all := lw_g (lw_at lw_m6 210 rfl) rfl
theorem q1513 : (Jvm.Cond.code ({ cls := "GleanersForGapsModel", name := "term", desc := "()I" } : Jvm.MethodName) prog_16_method_26_code (2 : Nat) (Option.some Jvm.ClassFile.FieldType.int)) ∈ lw_all := lw_g (lw_at lw_m6 211 rfl) rfl
theorem q1514 : (Jvm.Cond.methodLink "GleanersForGapsModel" (234 : Nat) ({ cls := "GleanersForGapsModel", name := "atom", desc := "()I" } : Jvm.MethodName)) ∈ lw_all := lw_g (lw_at lw_m6 212 rfl) rfl
theorem q1515 : (Jvm.Cond.privateMethod ({ cls := "GleanersForGapsModel", name := "atom", desc := "()I" } : Jvm.MethodName)) ∈ lw_tbl := lw_at lw_m6 213 rfl
theorem q1516 : (Jvm.Cond.instanceMethod ({ cls := "GleanersForGapsModel", name := "atom", desc := "()I" } : Jvm.MethodName)) ∈ lw_all := lw_g (lw_at lw_m6 214 rfl) rfl
theorem q1517 : (Jvm.Cond.code ({ cls := "GleanersForGapsModel", name := "atom", desc := "()I" } : Jvm.MethodName) prog_16_method_25_code (2 : Nat) (Option.some Jvm.ClassFile.FieldType.int)) ∈ lw_all := lw_g (lw_at lw_m6 215 rfl) rfl
theorem q1518 : (Jvm.Cond.methodLink "GleanersForGapsModel" (227 : Nat) ({ cls := "GleanersForGapsModel", name := "isSign", desc := "(I)Z" } : Jvm.MethodName)) ∈ lw_all := lw_g (lw_at lw_m6 216 rfl) rfl
theorem q1519 : (Jvm.Cond.privateMethod ({ cls := "GleanersForGapsModel", name := "isSign", desc := "(I)Z" } : Jvm.MethodName)) ∈ lw_tbl := lw_at lw_m6 217 rfl
theorem q1520 : (Jvm.Cond.instanceMethod ({ cls := "GleanersForGapsModel", name := "isSign", desc := "(I)Z" } : Jvm.MethodName)) ∈ lw_all := lw_g (lw_at lw_m6 218 rfl) rfl
theorem q1521 : (Jvm.Cond.code ({ cls := "GleanersForGapsModel", name := "isSign", desc := "(I)Z" } : Jvm.MethodName) prog_16_method_22_code (2 : Nat) (Option.some Jvm.ClassFile.FieldType.boolean)) ∈ lw_all := lw_g (lw_at lw_m6 219 rfl) rfl
theorem q1522 : (Jvm.Cond.methodLink "GleanersForGapsModel" (241 : Nat) ({ cls := "GleanersForGapsModel", name := "name", desc := "()I" } : Jvm.MethodName)) ∈ lw_all := lw_g (lw_at lw_m6 220 rfl) rfl
theorem q1523 : (Jvm.Cond.privateMethod ({ cls := "GleanersForGapsModel", name := "name", desc := "()I" } : Jvm.MethodName)) ∈ lw_tbl := lw_at lw_m6 221 rfl
theorem q1524 : (Jvm.Cond.instanceMethod ({ cls := "GleanersForGapsModel", name := "name", desc := "()I" } : Jvm.MethodName)) ∈ lw_all := lw_g (lw_at lw_m6 222 rfl) rfl
theorem q1525 : (Jvm.Cond.code ({ cls := "GleanersForGapsModel", name := "name", desc := "()I" } : Jvm.MethodName) prog_16_method_24_code (1 : Nat) (Option.some Jvm.ClassFile.FieldType.int)) ∈ lw_all := lw_g (lw_at lw_m6 223 rfl) rfl
theorem q1526 : (Jvm.Cond.constantLong "GleanersForGapsModel" (247 : Nat) (43 : Int64)) ∈ lw_all := lw_g (lw_at lw_m6 224 rfl) rfl
theorem q1527 : (Jvm.Cond.constantLong "GleanersForGapsModel" (255 : Nat) (60 : Int64)) ∈ lw_all := lw_g (lw_at lw_m6 225 rfl) rfl
theorem q1528 : (Jvm.Cond.methodLink "GleanersForGapsModel" (267 : Nat) ({ cls := "GleanersForGapsModel", name := "within", desc := "(III)I" } : Jvm.MethodName)) ∈ lw_all := lw_g (lw_at lw_m6 226 rfl) rfl
theorem q1529 : (Jvm.Cond.static ({ cls := "GleanersForGapsModel", name := "within", desc := "(III)I" } : Jvm.MethodName)) ∈ lw_all := lw_g (lw_at lw_m6 227 rfl) rfl
theorem q1530 : (Jvm.Cond.code ({ cls := "GleanersForGapsModel", name := "within", desc := "(III)I" } : Jvm.MethodName) prog_16_method_3_code (3 : Nat) (Option.some Jvm.ClassFile.FieldType.int)) ∈ lw_all := lw_g (lw_at lw_m6 228 rfl) rfl
theorem q1531 : (Jvm.Cond.methodLink "GleanersForGapsModel" (141 : Nat) ({ cls := "GleanersForGapsModel", name := "runsOf", desc := "(I)I" } : Jvm.MethodName)) ∈ lw_all := lw_g (lw_at lw_m6 229 rfl) rfl
theorem q1532 : (Jvm.Cond.privateMethod ({ cls := "GleanersForGapsModel", name := "runsOf", desc := "(I)I" } : Jvm.MethodName)) ∈ lw_tbl := lw_at lw_m6 230 rfl
theorem q1533 : (Jvm.Cond.instanceMethod ({ cls := "GleanersForGapsModel", name := "runsOf", desc := "(I)I" } : Jvm.MethodName)) ∈ lw_all := lw_g (lw_at lw_m6 231 rfl) rfl
theorem q1534 : (Jvm.Cond.code ({ cls := "GleanersForGapsModel", name := "runsOf", desc := "(I)I" } : Jvm.MethodName) prog_16_method_40_code (4 : Nat) (Option.some Jvm.ClassFile.FieldType.int)) ∈ lw_all := lw_g (lw_at lw_m6 232 rfl) rfl
theorem q1535 : (Jvm.Cond.methodLink "GleanersForGapsModel" (275 : Nat) ({ cls := "GleanersForGapsModel", name := "isGap", desc := "(II)Z" } : Jvm.MethodName)) ∈ lw_all := lw_g (lw_at lw_m6 233 rfl) rfl
theorem q1536 : (Jvm.Cond.privateMethod ({ cls := "GleanersForGapsModel", name := "isGap", desc := "(II)Z" } : Jvm.MethodName)) ∈ lw_tbl := lw_at lw_m6 234 rfl
theorem q1537 : (Jvm.Cond.instanceMethod ({ cls := "GleanersForGapsModel", name := "isGap", desc := "(II)Z" } : Jvm.MethodName)) ∈ lw_all := lw_g (lw_at lw_m6 235 rfl) rfl
theorem q1538 : (Jvm.Cond.code ({ cls := "GleanersForGapsModel", name := "isGap", desc := "(II)Z" } : Jvm.MethodName) prog_16_method_39_code (3 : Nat) (Option.some Jvm.ClassFile.FieldType.boolean)) ∈ lw_all := lw_g (lw_at lw_m6 236 rfl) rfl
theorem q1539 : (Jvm.Cond.methodLink "GleanersForGapsModel" (144 : Nat) ({ cls := "GleanersForGapsModel", name := "greatestOf", desc := "(I)I" } : Jvm.MethodName)) ∈ lw_all := lw_g (lw_at lw_m6 237 rfl) rfl
theorem q1540 : (Jvm.Cond.privateMethod ({ cls := "GleanersForGapsModel", name := "greatestOf", desc := "(I)I" } : Jvm.MethodName)) ∈ lw_tbl := lw_at lw_m6 238 rfl
theorem q1541 : (Jvm.Cond.instanceMethod ({ cls := "GleanersForGapsModel", name := "greatestOf", desc := "(I)I" } : Jvm.MethodName)) ∈ lw_all := lw_g (lw_at lw_m6 239 rfl) rfl
theorem q1542 : (Jvm.Cond.code ({ cls := "GleanersForGapsModel", name := "greatestOf", desc := "(I)I" } : Jvm.MethodName) prog_16_method_41_code (5 : Nat) (Option.some Jvm.ClassFile.FieldType.int)) ∈ lw_all := lw_g (lw_at lw_m7 0 rfl) rfl
theorem q1543 : (Jvm.Cond.methodLink "GleanersForGapsModel" (147 : Nat) ({ cls := "GleanersForGapsModel", name := "shakenOf", desc := "(I)I" } : Jvm.MethodName)) ∈ lw_all := lw_g (lw_at lw_m7 1 rfl) rfl
theorem q1544 : (Jvm.Cond.privateMethod ({ cls := "GleanersForGapsModel", name := "shakenOf", desc := "(I)I" } : Jvm.MethodName)) ∈ lw_tbl := lw_at lw_m7 2 rfl
theorem q1545 : (Jvm.Cond.instanceMethod ({ cls := "GleanersForGapsModel", name := "shakenOf", desc := "(I)I" } : Jvm.MethodName)) ∈ lw_all := lw_g (lw_at lw_m7 3 rfl) rfl
theorem q1546 : (Jvm.Cond.code ({ cls := "GleanersForGapsModel", name := "shakenOf", desc := "(I)I" } : Jvm.MethodName) prog_16_method_38_code (2 : Nat) (Option.some Jvm.ClassFile.FieldType.int)) ∈ lw_all := lw_g (lw_at lw_m7 4 rfl) rfl
theorem q1547 : (Jvm.Cond.methodLink "GleanersForGapsModel" (122 : Nat) ({ cls := "GleanersForGapsModel", name := "lays", desc := "(III)V" } : Jvm.MethodName)) ∈ lw_all := lw_g (lw_at lw_m7 5 rfl) rfl
theorem q1548 : (Jvm.Cond.privateMethod ({ cls := "GleanersForGapsModel", name := "lays", desc := "(III)V" } : Jvm.MethodName)) ∈ lw_tbl := lw_at lw_m7 6 rfl
theorem q1549 : (Jvm.Cond.instanceMethod ({ cls := "GleanersForGapsModel", name := "lays", desc := "(III)V" } : Jvm.MethodName)) ∈ lw_all := lw_g (lw_at lw_m7 7 rfl) rfl
theorem q1550 : (Jvm.Cond.code ({ cls := "GleanersForGapsModel", name := "lays", desc := "(III)V" } : Jvm.MethodName) prog_16_method_13_code (4 : Nat) (Option.none : Option Jvm.ClassFile.FieldType)) ∈ lw_all := lw_g (lw_at lw_m7 8 rfl) rfl
theorem q1552 : (Jvm.Cond.instanceMethod ({ cls := "GleanersForGapsModel", name := "gleaner", desc := "(II)I" } : Jvm.MethodName)) ∈ lw_all := lw_g (lw_at lw_m7 10 rfl) rfl
theorem q1553 : (Jvm.Cond.selects "GleanersForGapsModel" ({ cls := "GleanersForGapsModel", name := "gleaner", desc := "(II)I" } : Jvm.MethodName) ({ cls := "GleanersForGapsModel", name := "gleaner", desc := "(II)I" } : Jvm.MethodName)) ∈ lw_all := lw_g (lw_at lw_m7 11 rfl) rfl
theorem q1554 : (Jvm.Cond.code ({ cls := "GleanersForGapsModel", name := "gleaner", desc := "(II)I" } : Jvm.MethodName) prog_16_method_14_code (3 : Nat) (Option.some Jvm.ClassFile.FieldType.int)) ∈ lw_all := lw_g (lw_at lw_m7 12 rfl) rfl
theorem q1555 : (Jvm.Cond.constantLong "GleanersForGapsModel" (132 : Nat) (5 : Int64)) ∈ lw_all := lw_g (lw_at lw_m7 13 rfl) rfl
theorem q1556 : (Jvm.Cond.constantLong "GleanersForGapsModel" (134 : Nat) (9 : Int64)) ∈ lw_all := lw_g (lw_at lw_m7 14 rfl) rfl
theorem q1559 : (Jvm.Cond.instanceMethod ({ cls := "GleanersForGapsModel", name := "feed", desc := "(I)I" } : Jvm.MethodName)) ∈ lw_all := lw_g (lw_at lw_m7 17 rfl) rfl
theorem q1560 : (Jvm.Cond.selects "GleanersForGapsModel" ({ cls := "GleanersForGapsModel", name := "feed", desc := "(I)I" } : Jvm.MethodName) ({ cls := "GleanersForGapsModel", name := "feed", desc := "(I)I" } : Jvm.MethodName)) ∈ lw_all := lw_g (lw_at lw_m7 18 rfl) rfl
theorem q1561 : (Jvm.Cond.code ({ cls := "GleanersForGapsModel", name := "feed", desc := "(I)I" } : Jvm.MethodName) prog_16_method_16_code (2 : Nat) (Option.some Jvm.ClassFile.FieldType.int)) ∈ lw_all := lw_g (lw_at lw_m7 19 rfl) rfl
theorem q1562 : (Jvm.Cond.constantLong "GleanersForGapsModel" (150 : Nat) (255 : Int64)) ∈ lw_all := lw_g (lw_at lw_m7 20 rfl) rfl
theorem q1564 : (Jvm.Cond.instanceMethod ({ cls := "GleanersForGapsModel", name := "text", desc := "()I" } : Jvm.MethodName)) ∈ lw_all := lw_g (lw_at lw_m7 22 rfl) rfl
theorem q1565 : (Jvm.Cond.selects "GleanersForGapsModel" ({ cls := "GleanersForGapsModel", name := "text", desc := "()I" } : Jvm.MethodName) ({ cls := "GleanersForGapsModel", name := "text", desc := "()I" } : Jvm.MethodName)) ∈ lw_all := lw_g (lw_at lw_m7 23 rfl) rfl
theorem q1566 : (Jvm.Cond.code ({ cls := "GleanersForGapsModel", name := "text", desc := "()I" } : Jvm.MethodName) prog_16_method_33_code (2 : Nat) (Option.some Jvm.ClassFile.FieldType.int)) ∈ lw_all := lw_g (lw_at lw_m7 24 rfl) rfl
theorem q1568 : (Jvm.Cond.instanceMethod ({ cls := "GleanersForGapsModel", name := "force", desc := "(I)I" } : Jvm.MethodName)) ∈ lw_all := lw_g (lw_at lw_m7 26 rfl) rfl
theorem q1569 : (Jvm.Cond.selects "GleanersForGapsModel" ({ cls := "GleanersForGapsModel", name := "force", desc := "(I)I" } : Jvm.MethodName) ({ cls := "GleanersForGapsModel", name := "force", desc := "(I)I" } : Jvm.MethodName)) ∈ lw_all := lw_g (lw_at lw_m7 27 rfl) rfl
theorem q1570 : (Jvm.Cond.code ({ cls := "GleanersForGapsModel", name := "force", desc := "(I)I" } : Jvm.MethodName) prog_16_method_34_code (3 : Nat) (Option.some Jvm.ClassFile.FieldType.int)) ∈ lw_all := lw_g (lw_at lw_m7 28 rfl) rfl
theorem q1572 : (Jvm.Cond.instanceMethod ({ cls := "GleanersForGapsModel", name := "run", desc := "(II)I" } : Jvm.MethodName)) ∈ lw_all := lw_g (lw_at lw_m7 30 rfl) rfl
theorem q1573 : (Jvm.Cond.selects "GleanersForGapsModel" ({ cls := "GleanersForGapsModel", name := "run", desc := "(II)I" } : Jvm.MethodName) ({ cls := "GleanersForGapsModel", name := "run", desc := "(II)I" } : Jvm.MethodName)) ∈ lw_all := lw_g (lw_at lw_m7 31 rfl) rfl
theorem q1574 : (Jvm.Cond.code ({ cls := "GleanersForGapsModel", name := "run", desc := "(II)I" } : Jvm.MethodName) prog_16_method_42_code (3 : Nat) (Option.some Jvm.ClassFile.FieldType.int)) ∈ lw_all := lw_g (lw_at lw_m7 32 rfl) rfl
theorem q1576 : (Jvm.Cond.instanceMethod ({ cls := "GleanersForGapsModel", name := "asks", desc := "(II)I" } : Jvm.MethodName)) ∈ lw_all := lw_g (lw_at lw_m7 34 rfl) rfl
theorem q1577 : (Jvm.Cond.selects "GleanersForGapsModel" ({ cls := "GleanersForGapsModel", name := "asks", desc := "(II)I" } : Jvm.MethodName) ({ cls := "GleanersForGapsModel", name := "asks", desc := "(II)I" } : Jvm.MethodName)) ∈ lw_all := lw_g (lw_at lw_m7 35 rfl) rfl
theorem q1578 : (Jvm.Cond.code ({ cls := "GleanersForGapsModel", name := "asks", desc := "(II)I" } : Jvm.MethodName) prog_16_method_43_code (3 : Nat) (Option.some Jvm.ClassFile.FieldType.int)) ∈ lw_all := lw_g (lw_at lw_m7 36 rfl) rfl
theorem q1579 : (Jvm.Cond.methodLink "GleanersForGapsModel" (278 : Nat) ({ cls := "GleanersForGapsModel", name := "takesOf", desc := "(IIII)I" } : Jvm.MethodName)) ∈ lw_all := lw_g (lw_at lw_m7 37 rfl) rfl
theorem q1580 : (Jvm.Cond.privateMethod ({ cls := "GleanersForGapsModel", name := "takesOf", desc := "(IIII)I" } : Jvm.MethodName)) ∈ lw_tbl := lw_at lw_m7 38 rfl
theorem q1581 : (Jvm.Cond.instanceMethod ({ cls := "GleanersForGapsModel", name := "takesOf", desc := "(IIII)I" } : Jvm.MethodName)) ∈ lw_all := lw_g (lw_at lw_m7 39 rfl) rfl
theorem q1582 : (Jvm.Cond.code ({ cls := "GleanersForGapsModel", name := "takesOf", desc := "(IIII)I" } : Jvm.MethodName) prog_16_method_36_code (9 : Nat) (Option.some Jvm.ClassFile.FieldType.int)) ∈ lw_all := lw_g (lw_at lw_m7 40 rfl) rfl
theorem q1584 : (Jvm.Cond.instanceMethod ({ cls := "GleanersForGapsModel", name := "glean", desc := "(II)I" } : Jvm.MethodName)) ∈ lw_all := lw_g (lw_at lw_m7 42 rfl) rfl
theorem q1585 : (Jvm.Cond.selects "GleanersForGapsModel" ({ cls := "GleanersForGapsModel", name := "glean", desc := "(II)I" } : Jvm.MethodName) ({ cls := "GleanersForGapsModel", name := "glean", desc := "(II)I" } : Jvm.MethodName)) ∈ lw_all := lw_g (lw_at lw_m7 43 rfl) rfl
theorem q1586 : (Jvm.Cond.code ({ cls := "GleanersForGapsModel", name := "glean", desc := "(II)I" } : Jvm.MethodName) prog_16_method_46_code (3 : Nat) (Option.some Jvm.ClassFile.FieldType.int)) ∈ lw_all := lw_g (lw_at lw_m7 44 rfl) rfl
theorem q1587 : (Jvm.Cond.methodLink "GleanersForGapsModel" (285 : Nat) ({ cls := "GleanersForGapsModel", name := "gleans", desc := "(II)I" } : Jvm.MethodName)) ∈ lw_all := lw_g (lw_at lw_m7 45 rfl) rfl
theorem q1588 : (Jvm.Cond.privateMethod ({ cls := "GleanersForGapsModel", name := "gleans", desc := "(II)I" } : Jvm.MethodName)) ∈ lw_tbl := lw_at lw_m7 46 rfl
theorem q1589 : (Jvm.Cond.instanceMethod ({ cls := "GleanersForGapsModel", name := "gleans", desc := "(II)I" } : Jvm.MethodName)) ∈ lw_all := lw_g (lw_at lw_m7 47 rfl) rfl
theorem q1590 : (Jvm.Cond.code ({ cls := "GleanersForGapsModel", name := "gleans", desc := "(II)I" } : Jvm.MethodName) prog_16_method_45_code (8 : Nat) (Option.some Jvm.ClassFile.FieldType.int)) ∈ lw_all := lw_g (lw_at lw_m7 48 rfl) rfl
theorem q1591 : (Jvm.Cond.methodLink "GleanersForGapsModel" (282 : Nat) ({ cls := "GleanersForGapsModel", name := "closes", desc := "(III)V" } : Jvm.MethodName)) ∈ lw_all := lw_g (lw_at lw_m7 49 rfl) rfl
theorem q1592 : (Jvm.Cond.privateMethod ({ cls := "GleanersForGapsModel", name := "closes", desc := "(III)V" } : Jvm.MethodName)) ∈ lw_tbl := lw_at lw_m7 50 rfl
theorem q1593 : (Jvm.Cond.instanceMethod ({ cls := "GleanersForGapsModel", name := "closes", desc := "(III)V" } : Jvm.MethodName)) ∈ lw_all := lw_g (lw_at lw_m7 51 rfl) rfl
theorem q1594 : (Jvm.Cond.code ({ cls := "GleanersForGapsModel", name := "closes", desc := "(III)V" } : Jvm.MethodName) prog_16_method_44_code (5 : Nat) (Option.none : Option Jvm.ClassFile.FieldType)) ∈ lw_all := lw_g (lw_at lw_m7 52 rfl) rfl
theorem q1596 : (Jvm.Cond.instanceMethod ({ cls := "GleanersForGapsModel", name := "go", desc := "(II)I" } : Jvm.MethodName)) ∈ lw_all := lw_g (lw_at lw_m7 54 rfl) rfl
theorem q1597 : (Jvm.Cond.selects "GleanersForGapsModel" ({ cls := "GleanersForGapsModel", name := "go", desc := "(II)I" } : Jvm.MethodName) ({ cls := "GleanersForGapsModel", name := "go", desc := "(II)I" } : Jvm.MethodName)) ∈ lw_all := lw_g (lw_at lw_m7 55 rfl) rfl
theorem q1598 : (Jvm.Cond.code ({ cls := "GleanersForGapsModel", name := "go", desc := "(II)I" } : Jvm.MethodName) prog_16_method_48_code (4 : Nat) (Option.some Jvm.ClassFile.FieldType.int)) ∈ lw_all := lw_g (lw_at lw_m7 56 rfl) rfl
theorem q1599 : (Jvm.Cond.methodLink "GleanersForGapsModel" (288 : Nat) ({ cls := "GleanersForGapsModel", name := "isOrder", desc := "(I)Z" } : Jvm.MethodName)) ∈ lw_all := lw_g (lw_at lw_m7 57 rfl) rfl
theorem q1600 : (Jvm.Cond.privateMethod ({ cls := "GleanersForGapsModel", name := "isOrder", desc := "(I)Z" } : Jvm.MethodName)) ∈ lw_tbl := lw_at lw_m7 58 rfl
theorem q1601 : (Jvm.Cond.instanceMethod ({ cls := "GleanersForGapsModel", name := "isOrder", desc := "(I)Z" } : Jvm.MethodName)) ∈ lw_all := lw_g (lw_at lw_m7 59 rfl) rfl
theorem q1602 : (Jvm.Cond.code ({ cls := "GleanersForGapsModel", name := "isOrder", desc := "(I)Z" } : Jvm.MethodName) prog_16_method_47_code (5 : Nat) (Option.some Jvm.ClassFile.FieldType.boolean)) ∈ lw_all := lw_g (lw_at lw_m7 60 rfl) rfl
theorem q1604 : (Jvm.Cond.instanceMethod ({ cls := "GleanersForGapsModel", name := "night", desc := "()I" } : Jvm.MethodName)) ∈ lw_all := lw_g (lw_at lw_m7 62 rfl) rfl
theorem q1605 : (Jvm.Cond.selects "GleanersForGapsModel" ({ cls := "GleanersForGapsModel", name := "night", desc := "()I" } : Jvm.MethodName) ({ cls := "GleanersForGapsModel", name := "night", desc := "()I" } : Jvm.MethodName)) ∈ lw_all := lw_g (lw_at lw_m7 63 rfl) rfl
theorem q1606 : (Jvm.Cond.code ({ cls := "GleanersForGapsModel", name := "night", desc := "()I" } : Jvm.MethodName) prog_16_method_51_code (1 : Nat) (Option.some Jvm.ClassFile.FieldType.int)) ∈ lw_all := lw_g (lw_at lw_m7 64 rfl) rfl
theorem q1607 : (Jvm.Cond.methodLink "GleanersForGapsModel" (291 : Nat) ({ cls := "GleanersForGapsModel", name := "passes", desc := "()V" } : Jvm.MethodName)) ∈ lw_all := lw_g (lw_at lw_m7 65 rfl) rfl
theorem q1608 : (Jvm.Cond.privateMethod ({ cls := "GleanersForGapsModel", name := "passes", desc := "()V" } : Jvm.MethodName)) ∈ lw_tbl := lw_at lw_m7 66 rfl
theorem q1609 : (Jvm.Cond.instanceMethod ({ cls := "GleanersForGapsModel", name := "passes", desc := "()V" } : Jvm.MethodName)) ∈ lw_all := lw_g (lw_at lw_m7 67 rfl) rfl
theorem q1610 : (Jvm.Cond.code ({ cls := "GleanersForGapsModel", name := "passes", desc := "()V" } : Jvm.MethodName) prog_16_method_50_code (2 : Nat) (Option.none : Option Jvm.ClassFile.FieldType)) ∈ lw_all := lw_g (lw_at lw_m7 68 rfl) rfl
theorem q1611 : (Jvm.Cond.methodLink "GleanersForGapsModel" (294 : Nat) ({ cls := "GleanersForGapsModel", name := "gapsAll", desc := "()I" } : Jvm.MethodName)) ∈ lw_all := lw_g (lw_at lw_m7 69 rfl) rfl
theorem q1612 : (Jvm.Cond.privateMethod ({ cls := "GleanersForGapsModel", name := "gapsAll", desc := "()I" } : Jvm.MethodName)) ∈ lw_tbl := lw_at lw_m7 70 rfl
theorem q1613 : (Jvm.Cond.instanceMethod ({ cls := "GleanersForGapsModel", name := "gapsAll", desc := "()I" } : Jvm.MethodName)) ∈ lw_all := lw_g (lw_at lw_m7 71 rfl) rfl
theorem q1614 : (Jvm.Cond.code ({ cls := "GleanersForGapsModel", name := "gapsAll", desc := "()I" } : Jvm.MethodName) prog_16_method_49_code (1 : Nat) (Option.some Jvm.ClassFile.FieldType.int)) ∈ lw_all := lw_g (lw_at lw_m7 72 rfl) rfl
theorem q1616 : (Jvm.Cond.instanceMethod ({ cls := "GleanersForGapsModel", name := "tries", desc := "(III)I" } : Jvm.MethodName)) ∈ lw_all := lw_g (lw_at lw_m7 74 rfl) rfl
theorem q1617 : (Jvm.Cond.selects "GleanersForGapsModel" ({ cls := "GleanersForGapsModel", name := "tries", desc := "(III)I" } : Jvm.MethodName) ({ cls := "GleanersForGapsModel", name := "tries", desc := "(III)I" } : Jvm.MethodName)) ∈ lw_all := lw_g (lw_at lw_m7 75 rfl) rfl
theorem q1618 : (Jvm.Cond.code ({ cls := "GleanersForGapsModel", name := "tries", desc := "(III)I" } : Jvm.MethodName) prog_16_method_55_code (4 : Nat) (Option.some Jvm.ClassFile.FieldType.int)) ∈ lw_all := lw_g (lw_at lw_m7 76 rfl) rfl
theorem q1619 : (Jvm.Cond.methodLink "GleanersForGapsModel" (303 : Nat) ({ cls := "GleanersForGapsModel", name := "triesOf", desc := "(III)I" } : Jvm.MethodName)) ∈ lw_all := lw_g (lw_at lw_m7 77 rfl) rfl
theorem q1620 : (Jvm.Cond.privateMethod ({ cls := "GleanersForGapsModel", name := "triesOf", desc := "(III)I" } : Jvm.MethodName)) ∈ lw_tbl := lw_at lw_m7 78 rfl
theorem q1621 : (Jvm.Cond.instanceMethod ({ cls := "GleanersForGapsModel", name := "triesOf", desc := "(III)I" } : Jvm.MethodName)) ∈ lw_all := lw_g (lw_at lw_m7 79 rfl) rfl
theorem q1622 : (Jvm.Cond.code ({ cls := "GleanersForGapsModel", name := "triesOf", desc := "(III)I" } : Jvm.MethodName) prog_16_method_54_code (6 : Nat) (Option.some Jvm.ClassFile.FieldType.int)) ∈ lw_all := lw_g (lw_at lw_m7 80 rfl) rfl
theorem q1623 : (Jvm.Cond.methodLink "GleanersForGapsModel" (297 : Nat) ({ cls := "GleanersForGapsModel", name := "laysAside", desc := "()V" } : Jvm.MethodName)) ∈ lw_all := lw_g (lw_at lw_m7 81 rfl) rfl
theorem q1624 : (Jvm.Cond.privateMethod ({ cls := "GleanersForGapsModel", name := "laysAside", desc := "()V" } : Jvm.MethodName)) ∈ lw_tbl := lw_at lw_m7 82 rfl
theorem q1625 : (Jvm.Cond.instanceMethod ({ cls := "GleanersForGapsModel", name := "laysAside", desc := "()V" } : Jvm.MethodName)) ∈ lw_all := lw_g (lw_at lw_m7 83 rfl) rfl
theorem q1626 : (Jvm.Cond.code ({ cls := "GleanersForGapsModel", name := "laysAside", desc := "()V" } : Jvm.MethodName) prog_16_method_52_code (2 : Nat) (Option.none : Option Jvm.ClassFile.FieldType)) ∈ lw_all := lw_g (lw_at lw_m7 84 rfl) rfl
theorem q1627 : (Jvm.Cond.methodLink "GleanersForGapsModel" (300 : Nat) ({ cls := "GleanersForGapsModel", name := "laysBack", desc := "()V" } : Jvm.MethodName)) ∈ lw_all := lw_g (lw_at lw_m7 85 rfl) rfl
theorem q1628 : (Jvm.Cond.privateMethod ({ cls := "GleanersForGapsModel", name := "laysBack", desc := "()V" } : Jvm.MethodName)) ∈ lw_tbl := lw_at lw_m7 86 rfl
theorem q1629 : (Jvm.Cond.instanceMethod ({ cls := "GleanersForGapsModel", name := "laysBack", desc := "()V" } : Jvm.MethodName)) ∈ lw_all := lw_g (lw_at lw_m7 87 rfl) rfl
theorem q1630 : (Jvm.Cond.code ({ cls := "GleanersForGapsModel", name := "laysBack", desc := "()V" } : Jvm.MethodName) prog_16_method_53_code (2 : Nat) (Option.none : Option Jvm.ClassFile.FieldType)) ∈ lw_all := lw_g (lw_at lw_m7 88 rfl) rfl
theorem q1632 : (Jvm.Cond.instanceMethod ({ cls := "GleanersForGapsModel", name := "nights", desc := "(IIII)I" } : Jvm.MethodName)) ∈ lw_all := lw_g (lw_at lw_m7 90 rfl) rfl
theorem q1633 : (Jvm.Cond.selects "GleanersForGapsModel" ({ cls := "GleanersForGapsModel", name := "nights", desc := "(IIII)I" } : Jvm.MethodName) ({ cls := "GleanersForGapsModel", name := "nights", desc := "(IIII)I" } : Jvm.MethodName)) ∈ lw_all := lw_g (lw_at lw_m7 91 rfl) rfl
theorem q1634 : (Jvm.Cond.code ({ cls := "GleanersForGapsModel", name := "nights", desc := "(IIII)I" } : Jvm.MethodName) prog_16_method_57_code (6 : Nat) (Option.some Jvm.ClassFile.FieldType.int)) ∈ lw_all := lw_g (lw_at lw_m7 92 rfl) rfl
theorem q1635 : (Jvm.Cond.constantLong "GleanersForGapsModel" (306 : Nat) (20 : Int64)) ∈ lw_all := lw_g (lw_at lw_m7 93 rfl) rfl
theorem q1636 : (Jvm.Cond.methodLink "GleanersForGapsModel" (308 : Nat) ({ cls := "GleanersForGapsModel", name := "gleanNights", desc := "(II)V" } : Jvm.MethodName)) ∈ lw_all := lw_g (lw_at lw_m7 94 rfl) rfl
theorem q1637 : (Jvm.Cond.privateMethod ({ cls := "GleanersForGapsModel", name := "gleanNights", desc := "(II)V" } : Jvm.MethodName)) ∈ lw_tbl := lw_at lw_m7 95 rfl
theorem q1638 : (Jvm.Cond.instanceMethod ({ cls := "GleanersForGapsModel", name := "gleanNights", desc := "(II)V" } : Jvm.MethodName)) ∈ lw_all := lw_g (lw_at lw_m7 96 rfl) rfl
theorem q1639 : (Jvm.Cond.code ({ cls := "GleanersForGapsModel", name := "gleanNights", desc := "(II)V" } : Jvm.MethodName) prog_16_method_56_code (5 : Nat) (Option.none : Option Jvm.ClassFile.FieldType)) ∈ lw_all := lw_g (lw_at lw_m7 97 rfl) rfl
theorem q1641 : (Jvm.Cond.instanceMethod ({ cls := "GleanersForGapsModel", name := "first", desc := "(III)I" } : Jvm.MethodName)) ∈ lw_all := lw_g (lw_at lw_m7 99 rfl) rfl
theorem q1642 : (Jvm.Cond.selects "GleanersForGapsModel" ({ cls := "GleanersForGapsModel", name := "first", desc := "(III)I" } : Jvm.MethodName) ({ cls := "GleanersForGapsModel", name := "first", desc := "(III)I" } : Jvm.MethodName)) ∈ lw_all := lw_g (lw_at lw_m7 100 rfl) rfl
theorem q1643 : (Jvm.Cond.code ({ cls := "GleanersForGapsModel", name := "first", desc := "(III)I" } : Jvm.MethodName) prog_16_method_59_code (4 : Nat) (Option.some Jvm.ClassFile.FieldType.int)) ∈ lw_all := lw_g (lw_at lw_m7 101 rfl) rfl
theorem q1644 : (Jvm.Cond.methodLink "GleanersForGapsModel" (318 : Nat) ({ cls := "GleanersForGapsModel", name := "orders", desc := "(IIIII)V" } : Jvm.MethodName)) ∈ lw_all := lw_g (lw_at lw_m7 102 rfl) rfl
theorem q1645 : (Jvm.Cond.privateMethod ({ cls := "GleanersForGapsModel", name := "orders", desc := "(IIIII)V" } : Jvm.MethodName)) ∈ lw_tbl := lw_at lw_m7 103 rfl
theorem q1646 : (Jvm.Cond.instanceMethod ({ cls := "GleanersForGapsModel", name := "orders", desc := "(IIIII)V" } : Jvm.MethodName)) ∈ lw_all := lw_g (lw_at lw_m7 104 rfl) rfl
theorem q1647 : (Jvm.Cond.code ({ cls := "GleanersForGapsModel", name := "orders", desc := "(IIIII)V" } : Jvm.MethodName) prog_16_method_58_code (11 : Nat) (Option.none : Option Jvm.ClassFile.FieldType)) ∈ lw_all := lw_g (lw_at lw_m7 105 rfl) rfl
theorem q1649 : (Jvm.Cond.instanceMethod ({ cls := "GleanersForGapsModel", name := "best", desc := "(II)I" } : Jvm.MethodName)) ∈ lw_all := lw_g (lw_at lw_m7 107 rfl) rfl
theorem q1650 : (Jvm.Cond.selects "GleanersForGapsModel" ({ cls := "GleanersForGapsModel", name := "best", desc := "(II)I" } : Jvm.MethodName) ({ cls := "GleanersForGapsModel", name := "best", desc := "(II)I" } : Jvm.MethodName)) ∈ lw_all := lw_g (lw_at lw_m7 108 rfl) rfl
theorem q1651 : (Jvm.Cond.code ({ cls := "GleanersForGapsModel", name := "best", desc := "(II)I" } : Jvm.MethodName) prog_16_method_62_code (3 : Nat) (Option.some Jvm.ClassFile.FieldType.int)) ∈ lw_all := lw_g (lw_at lw_m7 109 rfl) rfl
theorem q1652 : (Jvm.Cond.constantLong "GleanersForGapsModel" (322 : Nat) (4 : Int64)) ∈ lw_all := lw_g (lw_at lw_m7 110 rfl) rfl
theorem q1653 : (Jvm.Cond.methodLink "GleanersForGapsModel" (324 : Nat) ({ cls := "GleanersForGapsModel", name := "bareOf", desc := "(I)I" } : Jvm.MethodName)) ∈ lw_all := lw_g (lw_at lw_m7 111 rfl) rfl
theorem q1654 : (Jvm.Cond.privateMethod ({ cls := "GleanersForGapsModel", name := "bareOf", desc := "(I)I" } : Jvm.MethodName)) ∈ lw_tbl := lw_at lw_m7 112 rfl
theorem q1655 : (Jvm.Cond.instanceMethod ({ cls := "GleanersForGapsModel", name := "bareOf", desc := "(I)I" } : Jvm.MethodName)) ∈ lw_all := lw_g (lw_at lw_m7 113 rfl) rfl
theorem q1656 : (Jvm.Cond.code ({ cls := "GleanersForGapsModel", name := "bareOf", desc := "(I)I" } : Jvm.MethodName) prog_16_method_61_code (3 : Nat) (Option.some Jvm.ClassFile.FieldType.int)) ∈ lw_all := lw_g (lw_at lw_m7 114 rfl) rfl
theorem q1657 : (Jvm.Cond.methodLink "GleanersForGapsModel" (327 : Nat) ({ cls := "GleanersForGapsModel", name := "aloneOf", desc := "(II)I" } : Jvm.MethodName)) ∈ lw_all := lw_g (lw_at lw_m7 115 rfl) rfl
theorem q1658 : (Jvm.Cond.privateMethod ({ cls := "GleanersForGapsModel", name := "aloneOf", desc := "(II)I" } : Jvm.MethodName)) ∈ lw_tbl := lw_at lw_m7 116 rfl
theorem q1659 : (Jvm.Cond.instanceMethod ({ cls := "GleanersForGapsModel", name := "aloneOf", desc := "(II)I" } : Jvm.MethodName)) ∈ lw_all := lw_g (lw_at lw_m7 117 rfl) rfl
theorem q1660 : (Jvm.Cond.code ({ cls := "GleanersForGapsModel", name := "aloneOf", desc := "(II)I" } : Jvm.MethodName) prog_16_method_60_code (7 : Nat) (Option.some Jvm.ClassFile.FieldType.int)) ∈ lw_all := lw_g (lw_at lw_m7 118 rfl) rfl
theorem q1662 : (Jvm.Cond.instanceMethod ({ cls := "GleanersForGapsModel", name := "rowFor", desc := "(II)I" } : Jvm.MethodName)) ∈ lw_all := lw_g (lw_at lw_m7 120 rfl) rfl
theorem q1663 : (Jvm.Cond.selects "GleanersForGapsModel" ({ cls := "GleanersForGapsModel", name := "rowFor", desc := "(II)I" } : Jvm.MethodName) ({ cls := "GleanersForGapsModel", name := "rowFor", desc := "(II)I" } : Jvm.MethodName)) ∈ lw_all := lw_g (lw_at lw_m7 121 rfl) rfl
theorem q1664 : (Jvm.Cond.code ({ cls := "GleanersForGapsModel", name := "rowFor", desc := "(II)I" } : Jvm.MethodName) prog_16_method_63_code (7 : Nat) (Option.some Jvm.ClassFile.FieldType.int)) ∈ lw_all := lw_g (lw_at lw_m7 122 rfl) rfl
theorem q1666 : (Jvm.Cond.instanceMethod ({ cls := "GleanersForGapsModel", name := "longest", desc := "()I" } : Jvm.MethodName)) ∈ lw_all := lw_g (lw_at lw_m7 124 rfl) rfl
theorem q1667 : (Jvm.Cond.selects "GleanersForGapsModel" ({ cls := "GleanersForGapsModel", name := "longest", desc := "()I" } : Jvm.MethodName) ({ cls := "GleanersForGapsModel", name := "longest", desc := "()I" } : Jvm.MethodName)) ∈ lw_all := lw_g (lw_at lw_m7 125 rfl) rfl
theorem q1668 : (Jvm.Cond.code ({ cls := "GleanersForGapsModel", name := "longest", desc := "()I" } : Jvm.MethodName) prog_16_method_64_code (6 : Nat) (Option.some Jvm.ClassFile.FieldType.int)) ∈ lw_all := lw_g (lw_at lw_m7 126 rfl) rfl
theorem q1670 : (Jvm.Cond.instanceMethod ({ cls := "GleanersForGapsModel", name := "close", desc := "(I)J" } : Jvm.MethodName)) ∈ lw_all := lw_g (lw_at lw_m7 128 rfl) rfl
theorem q1671 : (Jvm.Cond.selects "GleanersForGapsModel" ({ cls := "GleanersForGapsModel", name := "close", desc := "(I)J" } : Jvm.MethodName) ({ cls := "GleanersForGapsModel", name := "close", desc := "(I)J" } : Jvm.MethodName)) ∈ lw_all := lw_g (lw_at lw_m7 129 rfl) rfl
theorem q1672 : (Jvm.Cond.code ({ cls := "GleanersForGapsModel", name := "close", desc := "(I)J" } : Jvm.MethodName) prog_16_method_66_code (3 : Nat) (Option.some Jvm.ClassFile.FieldType.long)) ∈ lw_all := lw_g (lw_at lw_m7 130 rfl) rfl
theorem q1673 : (Jvm.Cond.methodLink "GleanersForGapsModel" (330 : Nat) ({ cls := "GleanersForGapsModel", name := "lowest", desc := "(JJI)J" } : Jvm.MethodName)) ∈ lw_all := lw_g (lw_at lw_m7 131 rfl) rfl
theorem q1674 : (Jvm.Cond.static ({ cls := "GleanersForGapsModel", name := "lowest", desc := "(JJI)J" } : Jvm.MethodName)) ∈ lw_all := lw_g (lw_at lw_m7 132 rfl) rfl
theorem q1675 : (Jvm.Cond.code ({ cls := "GleanersForGapsModel", name := "lowest", desc := "(JJI)J" } : Jvm.MethodName) prog_16_method_65_code (11 : Nat) (Option.some Jvm.ClassFile.FieldType.long)) ∈ lw_all := lw_g (lw_at lw_m7 133 rfl) rfl
theorem q1676 : (Jvm.Cond.constantLong "GleanersForGapsModel" (334 : Nat) (-4611686018427387904 : Int64)) ∈ lw_all := lw_g (lw_at lw_m7 134 rfl) rfl
theorem q1678 : (Jvm.Cond.instanceMethod ({ cls := "GleanersForGapsModel", name := "tells", desc := "(IIII)I" } : Jvm.MethodName)) ∈ lw_all := lw_g (lw_at lw_m7 136 rfl) rfl
theorem q1679 : (Jvm.Cond.selects "GleanersForGapsModel" ({ cls := "GleanersForGapsModel", name := "tells", desc := "(IIII)I" } : Jvm.MethodName) ({ cls := "GleanersForGapsModel", name := "tells", desc := "(IIII)I" } : Jvm.MethodName)) ∈ lw_all := lw_g (lw_at lw_m7 137 rfl) rfl
theorem q1680 : (Jvm.Cond.code ({ cls := "GleanersForGapsModel", name := "tells", desc := "(IIII)I" } : Jvm.MethodName) prog_16_method_70_code (12 : Nat) (Option.some Jvm.ClassFile.FieldType.int)) ∈ lw_all := lw_g (lw_at lw_m7 138 rfl) rfl
theorem q1681 : (Jvm.Cond.methodLink "GleanersForGapsModel" (339 : Nat) ({ cls := "GleanersForGapsModel", name := "isSheet", desc := "(I)Z" } : Jvm.MethodName)) ∈ lw_all := lw_g (lw_at lw_m7 139 rfl) rfl
theorem q1682 : (Jvm.Cond.static ({ cls := "GleanersForGapsModel", name := "isSheet", desc := "(I)Z" } : Jvm.MethodName)) ∈ lw_all := lw_g (lw_at lw_m7 140 rfl) rfl
theorem q1683 : (Jvm.Cond.code ({ cls := "GleanersForGapsModel", name := "isSheet", desc := "(I)Z" } : Jvm.MethodName) prog_16_method_78_code (1 : Nat) (Option.some Jvm.ClassFile.FieldType.boolean)) ∈ lw_all := lw_g (lw_at lw_m7 141 rfl) rfl
theorem q1684 : (Jvm.Cond.constantLong "GleanersForGapsModel" (342 : Nat) (7 : Int64)) ∈ lw_all := lw_g (lw_at lw_m7 142 rfl) rfl
theorem q1685 : (Jvm.Cond.methodLink "GleanersForGapsModel" (336 : Nat) ({ cls := "GleanersForGapsModel", name := "firstOther", desc := "(III)I" } : Jvm.MethodName)) ∈ lw_all := lw_g (lw_at lw_m7 143 rfl) rfl
theorem q1686 : (Jvm.Cond.privateMethod ({ cls := "GleanersForGapsModel", name := "firstOther", desc := "(III)I" } : Jvm.MethodName)) ∈ lw_tbl := lw_at lw_m7 144 rfl
theorem q1687 : (Jvm.Cond.instanceMethod ({ cls := "GleanersForGapsModel", name := "firstOther", desc := "(III)I" } : Jvm.MethodName)) ∈ lw_all := lw_g (lw_at lw_m7 145 rfl) rfl
theorem q1688 : (Jvm.Cond.code ({ cls := "GleanersForGapsModel", name := "firstOther", desc := "(III)I" } : Jvm.MethodName) prog_16_method_67_code (5 : Nat) (Option.some Jvm.ClassFile.FieldType.int)) ∈ lw_all := lw_g (lw_at lw_m7 146 rfl) rfl
theorem q1689 : (Jvm.Cond.methodLink "GleanersForGapsModel" (344 : Nat) ({ cls := "GleanersForGapsModel", name := "likeSet", desc := "(II)I" } : Jvm.MethodName)) ∈ lw_all := lw_g (lw_at lw_m7 147 rfl) rfl
theorem q1690 : (Jvm.Cond.privateMethod ({ cls := "GleanersForGapsModel", name := "likeSet", desc := "(II)I" } : Jvm.MethodName)) ∈ lw_tbl := lw_at lw_m7 148 rfl
theorem q1691 : (Jvm.Cond.instanceMethod ({ cls := "GleanersForGapsModel", name := "likeSet", desc := "(II)I" } : Jvm.MethodName)) ∈ lw_all := lw_g (lw_at lw_m7 149 rfl) rfl
theorem q1692 : (Jvm.Cond.code ({ cls := "GleanersForGapsModel", name := "likeSet", desc := "(II)I" } : Jvm.MethodName) prog_16_method_68_code (5 : Nat) (Option.some Jvm.ClassFile.FieldType.int)) ∈ lw_all := lw_g (lw_at lw_m7 150 rfl) rfl
theorem q1693 : (Jvm.Cond.methodLink "GleanersForGapsModel" (347 : Nat) ({ cls := "GleanersForGapsModel", name := "rowSet", desc := "(II)I" } : Jvm.MethodName)) ∈ lw_all := lw_g (lw_at lw_m7 151 rfl) rfl
theorem q1694 : (Jvm.Cond.privateMethod ({ cls := "GleanersForGapsModel", name := "rowSet", desc := "(II)I" } : Jvm.MethodName)) ∈ lw_tbl := lw_at lw_m7 152 rfl
theorem q1695 : (Jvm.Cond.instanceMethod ({ cls := "GleanersForGapsModel", name := "rowSet", desc := "(II)I" } : Jvm.MethodName)) ∈ lw_all := lw_g (lw_at lw_m7 153 rfl) rfl
theorem q1696 : (Jvm.Cond.code ({ cls := "GleanersForGapsModel", name := "rowSet", desc := "(II)I" } : Jvm.MethodName) prog_16_method_69_code (5 : Nat) (Option.some Jvm.ClassFile.FieldType.int)) ∈ lw_all := lw_g (lw_at lw_m7 154 rfl) rfl
theorem q1698 : (Jvm.Cond.instanceMethod ({ cls := "GleanersForGapsModel", name := "film", desc := "(III)I" } : Jvm.MethodName)) ∈ lw_all := lw_g (lw_at lw_m7 156 rfl) rfl
theorem q1699 : (Jvm.Cond.selects "GleanersForGapsModel" ({ cls := "GleanersForGapsModel", name := "film", desc := "(III)I" } : Jvm.MethodName) ({ cls := "GleanersForGapsModel", name := "film", desc := "(III)I" } : Jvm.MethodName)) ∈ lw_all := lw_g (lw_at lw_m7 157 rfl) rfl
theorem q1700 : (Jvm.Cond.code ({ cls := "GleanersForGapsModel", name := "film", desc := "(III)I" } : Jvm.MethodName) prog_16_method_71_code (6 : Nat) (Option.some Jvm.ClassFile.FieldType.int)) ∈ lw_all := lw_g (lw_at lw_m7 158 rfl) rfl
theorem q1701 : (Jvm.Cond.methodLink "GleanersForGapsModel" (350 : Nat) ({ cls := "GleanersForGapsModel", name := "sheet", desc := "(III)I" } : Jvm.MethodName)) ∈ lw_all := lw_g (lw_at lw_m7 159 rfl) rfl
theorem q1702 : (Jvm.Cond.instanceMethod ({ cls := "GleanersForGapsModel", name := "sheet", desc := "(III)I" } : Jvm.MethodName)) ∈ lw_all := lw_g (lw_at lw_m7 160 rfl) rfl
theorem q1703 : (Jvm.Cond.selects "GleanersForGapsModel" ({ cls := "GleanersForGapsModel", name := "sheet", desc := "(III)I" } : Jvm.MethodName) ({ cls := "GleanersForGapsModel", name := "sheet", desc := "(III)I" } : Jvm.MethodName)) ∈ lw_all := lw_g (lw_at lw_m7 161 rfl) rfl
theorem q1704 : (Jvm.Cond.code ({ cls := "GleanersForGapsModel", name := "sheet", desc := "(III)I" } : Jvm.MethodName) prog_16_method_79_code (5 : Nat) (Option.some Jvm.ClassFile.FieldType.int)) ∈ lw_all := lw_g (lw_at lw_m7 162 rfl) rfl
theorem q1705 : (Jvm.Cond.constantLong "GleanersForGapsModel" (363 : Nat) (-1 : Int64)) ∈ lw_all := lw_g (lw_at lw_m7 163 rfl) rfl
theorem q1707 : (Jvm.Cond.instanceMethod ({ cls := "GleanersForGapsModel", name := "drawn", desc := "(II)I" } : Jvm.MethodName)) ∈ lw_all := lw_g (lw_at lw_m7 165 rfl) rfl
theorem q1708 : (Jvm.Cond.selects "GleanersForGapsModel" ({ cls := "GleanersForGapsModel", name := "drawn", desc := "(II)I" } : Jvm.MethodName) ({ cls := "GleanersForGapsModel", name := "drawn", desc := "(II)I" } : Jvm.MethodName)) ∈ lw_all := lw_g (lw_at lw_m7 166 rfl) rfl
theorem q1709 : (Jvm.Cond.code ({ cls := "GleanersForGapsModel", name := "drawn", desc := "(II)I" } : Jvm.MethodName) prog_16_method_73_code (3 : Nat) (Option.some Jvm.ClassFile.FieldType.int)) ∈ lw_all := lw_g (lw_at lw_m7 167 rfl) rfl
theorem q1710 : (Jvm.Cond.methodLink "GleanersForGapsModel" (354 : Nat) ({ cls := "GleanersForGapsModel", name := "takenDrawn", desc := "(II)I" } : Jvm.MethodName)) ∈ lw_all := lw_g (lw_at lw_m7 168 rfl) rfl
theorem q1711 : (Jvm.Cond.privateMethod ({ cls := "GleanersForGapsModel", name := "takenDrawn", desc := "(II)I" } : Jvm.MethodName)) ∈ lw_tbl := lw_at lw_m7 169 rfl
theorem q1712 : (Jvm.Cond.instanceMethod ({ cls := "GleanersForGapsModel", name := "takenDrawn", desc := "(II)I" } : Jvm.MethodName)) ∈ lw_all := lw_g (lw_at lw_m7 170 rfl) rfl
theorem q1713 : (Jvm.Cond.code ({ cls := "GleanersForGapsModel", name := "takenDrawn", desc := "(II)I" } : Jvm.MethodName) prog_16_method_72_code (5 : Nat) (Option.some Jvm.ClassFile.FieldType.int)) ∈ lw_all := lw_g (lw_at lw_m7 171 rfl) rfl
theorem q1714 : (Jvm.Cond.constant "GleanersForGapsModel" (353 : Nat) (1103515245 : Int32)) ∈ lw_all := lw_g (lw_at lw_m7 172 rfl) rfl
theorem q1716 : (Jvm.Cond.instanceMethod ({ cls := "GleanersForGapsModel", name := "chance", desc := "(IIIII)J" } : Jvm.MethodName)) ∈ lw_all := lw_g (lw_at lw_m7 174 rfl) rfl
theorem q1717 : (Jvm.Cond.selects "GleanersForGapsModel" ({ cls := "GleanersForGapsModel", name := "chance", desc := "(IIIII)J" } : Jvm.MethodName) ({ cls := "GleanersForGapsModel", name := "chance", desc := "(IIIII)J" } : Jvm.MethodName)) ∈ lw_all := lw_g (lw_at lw_m7 175 rfl) rfl
theorem q1718 : (Jvm.Cond.code ({ cls := "GleanersForGapsModel", name := "chance", desc := "(IIIII)J" } : Jvm.MethodName) prog_16_method_74_code (9 : Nat) (Option.some Jvm.ClassFile.FieldType.long)) ∈ lw_all := lw_g (lw_at lw_m7 176 rfl) rfl
theorem q1720 : (Jvm.Cond.instanceMethod ({ cls := "GleanersForGapsModel", name := "image", desc := "()I" } : Jvm.MethodName)) ∈ lw_all := lw_g (lw_at lw_m7 178 rfl) rfl
theorem q1721 : (Jvm.Cond.selects "GleanersForGapsModel" ({ cls := "GleanersForGapsModel", name := "image", desc := "()I" } : Jvm.MethodName) ({ cls := "GleanersForGapsModel", name := "image", desc := "()I" } : Jvm.MethodName)) ∈ lw_all := lw_g (lw_at lw_m7 179 rfl) rfl
theorem q1722 : (Jvm.Cond.code ({ cls := "GleanersForGapsModel", name := "image", desc := "()I" } : Jvm.MethodName) prog_16_method_75_code (2 : Nat) (Option.some Jvm.ClassFile.FieldType.int)) ∈ lw_all := lw_g (lw_at lw_m7 180 rfl) rfl
theorem q1724 : (Jvm.Cond.instanceMethod ({ cls := "GleanersForGapsModel", name := "back", desc := "()I" } : Jvm.MethodName)) ∈ lw_all := lw_g (lw_at lw_m7 182 rfl) rfl
theorem q1725 : (Jvm.Cond.selects "GleanersForGapsModel" ({ cls := "GleanersForGapsModel", name := "back", desc := "()I" } : Jvm.MethodName) ({ cls := "GleanersForGapsModel", name := "back", desc := "()I" } : Jvm.MethodName)) ∈ lw_all := lw_g (lw_at lw_m7 183 rfl) rfl
theorem q1726 : (Jvm.Cond.code ({ cls := "GleanersForGapsModel", name := "back", desc := "()I" } : Jvm.MethodName) prog_16_method_76_code (2 : Nat) (Option.some Jvm.ClassFile.FieldType.int)) ∈ lw_all := lw_g (lw_at lw_m7 184 rfl) rfl
theorem q1728 : (Jvm.Cond.instanceMethod ({ cls := "GleanersForGapsModel", name := "count", desc := "(I)I" } : Jvm.MethodName)) ∈ lw_all := lw_g (lw_at lw_m7 186 rfl) rfl
theorem q1729 : (Jvm.Cond.selects "GleanersForGapsModel" ({ cls := "GleanersForGapsModel", name := "count", desc := "(I)I" } : Jvm.MethodName) ({ cls := "GleanersForGapsModel", name := "count", desc := "(I)I" } : Jvm.MethodName)) ∈ lw_all := lw_g (lw_at lw_m7 187 rfl) rfl
theorem q1730 : (Jvm.Cond.code ({ cls := "GleanersForGapsModel", name := "count", desc := "(I)I" } : Jvm.MethodName) prog_16_method_77_code (2 : Nat) (Option.some Jvm.ClassFile.FieldType.int)) ∈ lw_all := lw_g (lw_at lw_m7 188 rfl) rfl
theorem q1733 : (Jvm.Cond.instanceMethod ({ cls := "GleanersForGapsModel", name := "cell", desc := "(III)I" } : Jvm.MethodName)) ∈ lw_all := lw_g (lw_at lw_m7 191 rfl) rfl
theorem q1734 : (Jvm.Cond.selects "GleanersForGapsModel" ({ cls := "GleanersForGapsModel", name := "cell", desc := "(III)I" } : Jvm.MethodName) ({ cls := "GleanersForGapsModel", name := "cell", desc := "(III)I" } : Jvm.MethodName)) ∈ lw_all := lw_g (lw_at lw_m7 192 rfl) rfl
theorem q1735 : (Jvm.Cond.code ({ cls := "GleanersForGapsModel", name := "cell", desc := "(III)I" } : Jvm.MethodName) prog_16_method_80_code (4 : Nat) (Option.some Jvm.ClassFile.FieldType.int)) ∈ lw_all := lw_g (lw_at lw_m7 193 rfl) rfl
theorem q1737 : (Jvm.Cond.instanceMethod ({ cls := "GleanersForGapsModel", name := "copy", desc := "(IIIII)I" } : Jvm.MethodName)) ∈ lw_all := lw_g (lw_at lw_m7 195 rfl) rfl
theorem q1738 : (Jvm.Cond.selects "GleanersForGapsModel" ({ cls := "GleanersForGapsModel", name := "copy", desc := "(IIIII)I" } : Jvm.MethodName) ({ cls := "GleanersForGapsModel", name := "copy", desc := "(IIIII)I" } : Jvm.MethodName)) ∈ lw_all := lw_g (lw_at lw_m7 196 rfl) rfl
theorem q1739 : (Jvm.Cond.code ({ cls := "GleanersForGapsModel", name := "copy", desc := "(IIIII)I" } : Jvm.MethodName) prog_16_method_81_code (9 : Nat) (Option.some Jvm.ClassFile.FieldType.int)) ∈ lw_all := lw_g (lw_at lw_m7 197 rfl) rfl
theorem q1741 : (Jvm.Cond.instanceMethod ({ cls := "GleanersForGapsModel", name := "gleaners", desc := "(IIII)I" } : Jvm.MethodName)) ∈ lw_all := lw_g (lw_at lw_m7 199 rfl) rfl
theorem q1742 : (Jvm.Cond.selects "GleanersForGapsModel" ({ cls := "GleanersForGapsModel", name := "gleaners", desc := "(IIII)I" } : Jvm.MethodName) ({ cls := "GleanersForGapsModel", name := "gleaners", desc := "(IIII)I" } : Jvm.MethodName)) ∈ lw_all := lw_g (lw_at lw_m7 200 rfl) rfl
theorem q1743 : (Jvm.Cond.code ({ cls := "GleanersForGapsModel", name := "gleaners", desc := "(IIII)I" } : Jvm.MethodName) prog_16_method_82_code (8 : Nat) (Option.some Jvm.ClassFile.FieldType.int)) ∈ lw_all := lw_g (lw_at lw_m7 201 rfl) rfl
theorem q1744 : (Jvm.Cond.methodLink "GleanersForGapsModel" (365 : Nat) ({ cls := "GleanersForGapsModel", name := "gleaner", desc := "(II)I" } : Jvm.MethodName)) ∈ lw_all := lw_g (lw_at lw_m7 202 rfl) rfl
theorem q1746 : (Jvm.Cond.instanceMethod ({ cls := "GleanersForGapsModel", name := "taken", desc := "(II)I" } : Jvm.MethodName)) ∈ lw_all := lw_g (lw_at lw_m7 204 rfl) rfl
theorem q1747 : (Jvm.Cond.selects "GleanersForGapsModel" ({ cls := "GleanersForGapsModel", name := "taken", desc := "(II)I" } : Jvm.MethodName) ({ cls := "GleanersForGapsModel", name := "taken", desc := "(II)I" } : Jvm.MethodName)) ∈ lw_all := lw_g (lw_at lw_m7 205 rfl) rfl
theorem q1748 : (Jvm.Cond.code ({ cls := "GleanersForGapsModel", name := "taken", desc := "(II)I" } : Jvm.MethodName) prog_16_method_84_code (4 : Nat) (Option.some Jvm.ClassFile.FieldType.int)) ∈ lw_all := lw_g (lw_at lw_m7 206 rfl) rfl
theorem q1749 : (Jvm.Cond.methodLink "GleanersForGapsModel" (368 : Nat) ({ cls := "GleanersForGapsModel", name := "over", desc := "(I)I" } : Jvm.MethodName)) ∈ lw_all := lw_g (lw_at lw_m7 207 rfl) rfl
theorem q1750 : (Jvm.Cond.static ({ cls := "GleanersForGapsModel", name := "over", desc := "(I)I" } : Jvm.MethodName)) ∈ lw_all := lw_g (lw_at lw_m7 208 rfl) rfl
theorem q1751 : (Jvm.Cond.code ({ cls := "GleanersForGapsModel", name := "over", desc := "(I)I" } : Jvm.MethodName) prog_16_method_83_code (1 : Nat) (Option.some Jvm.ClassFile.FieldType.int)) ∈ lw_all := lw_g (lw_at lw_m7 209 rfl) rfl
theorem in_X8 : ∀ w ∈ wsX80, w ∈ lw_all := lw_in wsX80 [1318, 1320, 1322, 1324, 1326, 1328, 1330, 1332, 1334, 1336, 1338, 1340, 1342, 1344, 1346, 1348, 1350, 1352, 1354, 1356, 1358, 1360, 1362, 1364, 1366, 1368, 1370, 1372, 1374, 1376, 1378, 1380, 1382, 1384, 1386, 1388, 1390, 1392, 1394, 1396, 1398, 1400, 1402, 1404, 1406, 1408, 1410] (by decide +kernel) (by decide +kernel)
