/-! PaneKeepsWeatherModel -/
set_option maxRecDepth 100000
def RX8 : String := "PaneKeepsWeatherModel"
def TX8 : u_T := fun k => match k with
  | 0 => ("PaneKeepsWeatherModel", "thrown", "I", false)
  | 1 => ("PaneKeepsWeatherModel", "texts", "[I", true)
  | 2 => ("PaneKeepsWeatherModel", "textSize", "[I", true)
  | 3 => ("PaneKeepsWeatherModel", "textCount", "I", false)
  | 4 => ("PaneKeepsWeatherModel", "rule", "I", false)
  | 5 => ("PaneKeepsWeatherModel", "tape", "[I", true)
  | 6 => ("PaneKeepsWeatherModel", "taped", "I", false)
  | 7 => ("PaneKeepsWeatherModel", "purse", "I", false)
  | 8 => ("PaneKeepsWeatherModel", "needs", "[I", true)
  | 9 => ("PaneKeepsWeatherModel", "there", "[I", true)
  | 10 => ("PaneKeepsWeatherModel", "kinds", "[I", true)
  | 11 => ("PaneKeepsWeatherModel", "rows", "[I", true)
  | 12 => ("PaneKeepsWeatherModel", "broken", "I", false)
  | 13 => ("PaneKeepsWeatherModel", "many", "I", false)
  | 14 => ("PaneKeepsWeatherModel", "ofHour", "I", false)
  | 15 => ("PaneKeepsWeatherModel", "ofDay", "I", false)
  | 16 => ("PaneKeepsWeatherModel", "ofWet", "I", false)
  | 17 => ("PaneKeepsWeatherModel", "ofNumber", "I", false)
  | 18 => ("PaneKeepsWeatherModel", "ofOpening", "I", false)
  | 19 => ("PaneKeepsWeatherModel", "ofBetween", "I", false)
  | 20 => ("PaneKeepsWeatherModel", "from", "I", false)
  | 21 => ("PaneKeepsWeatherModel", "size", "I", false)
  | 22 => ("PaneKeepsWeatherModel", "here", "I", false)
  | 23 => ("PaneKeepsWeatherModel", "token", "I", false)
  | 24 => ("PaneKeepsWeatherModel", "tokenAt", "I", false)
  | 25 => ("PaneKeepsWeatherModel", "tokenWorth", "J", false)
  | 26 => ("PaneKeepsWeatherModel", "open", "I", false)
  | 27 => ("PaneKeepsWeatherModel", "bad", "Z", false)
  | 28 => ("PaneKeepsWeatherModel", "fault", "I", false)
  | 29 => ("PaneKeepsWeatherModel", "sums", "[I", true)
  | 30 => ("PaneKeepsWeatherModel", "prices", "[I", true)
  | 31 => ("PaneKeepsWeatherModel", "hates", "[Z", true)
  | 32 => ("PaneKeepsWeatherModel", "tried", "[I", true)
  | 33 => ("PaneKeepsWeatherModel", "goal", "I", false)
  | 34 => ("PaneKeepsWeatherModel", "isFound", "Z", false)
  | 35 => ("PaneKeepsWeatherModel", "bestDigits", "I", false)
  | 36 => ("PaneKeepsWeatherModel", "bestValue", "I", false)
  | 37 => ("PaneKeepsWeatherModel", "daysWas", "[I", true)
  | 38 => ("PaneKeepsWeatherModel", "rowsKept", "[I", true)
  | 39 => ("PaneKeepsWeatherModel", "needsKept", "[I", true)
  | 40 => ("PaneKeepsWeatherModel", "thereKept", "[I", true)
  | 41 => ("PaneKeepsWeatherModel", "manyKept", "I", false)
  | 42 => ("PaneKeepsWeatherModel", "purseKept", "I", false)
  | 43 => ("PaneKeepsWeatherModel", "brokenKept", "I", false)
  | 44 => ("PaneKeepsWeatherModel", "ruleKept", "I", false)
  | 45 => ("PaneKeepsWeatherModel", "isThere", "[Z", true)
  | 46 => ("PaneKeepsWeatherModel", "sorts", "[I", true)
  | 47 => ("PaneKeepsWeatherModel", "sheetSize", "[I", true)
  | _ => ("PaneKeepsWeatherModel", "items", "[I", true)
def tyX8 : Nat → FieldType := fun k => match k with
  | 0 => .int
  | 1 => .array .int
  | 2 => .array .int
  | 3 => .int
  | 4 => .int
  | 5 => .array .int
  | 6 => .int
  | 7 => .int
  | 8 => .array .int
  | 9 => .array .int
  | 10 => .array .int
  | 11 => .array .int
  | 12 => .int
  | 13 => .int
  | 14 => .int
  | 15 => .int
  | 16 => .int
  | 17 => .int
  | 18 => .int
  | 19 => .int
  | 20 => .int
  | 21 => .int
  | 22 => .int
  | 23 => .int
  | 24 => .int
  | 25 => .long
  | 26 => .int
  | 27 => .boolean
  | 28 => .int
  | 29 => .array .int
  | 30 => .array .int
  | 31 => .array .boolean
  | 32 => .array .int
  | 33 => .int
  | 34 => .boolean
  | 35 => .int
  | 36 => .int
  | 37 => .array .int
  | 38 => .array .int
  | 39 => .array .int
  | 40 => .array .int
  | 41 => .int
  | 42 => .int
  | 43 => .int
  | 44 => .int
  | 45 => .array .boolean
  | 46 => .array .int
  | 47 => .array .int
  | _ => .array .int
abbrev wsX80 : List Cond := u_ws RX8 TX8 49
set_option maxRecDepth 100000 in
theorem nmX8 : ∀ a, a < 49 → ∀ b, b < 49 → a ≠ b → (TX8 a).2.1 ≠ (TX8 b).2.1 := by decide +kernel
set_option maxRecDepth 100000 in
theorem tyX8_ok : ∀ k, k < 49 → parseFieldDescriptor (TX8 k).2.2.1 = some (tyX8 k) := by decide +kernel
abbrev cX8_init : ByteArray := prog_16_method_4_code
def yX8_init : MethodName := ⟨RX8, "<init>", "()V"⟩
def dkwX8_init_14 : List UInt8 := [16, 32, 182, 0, 78, 42, 180, 0, 17, 3, 16, 56, 79, 42, 4, 181, 0, 82, 177]
abbrev dktX8_init_14 : List UInt8 := dkwX8_init_14 ++ []
def dkwX8_init_13 : List UInt8 := [16, 32, 16, 60, 182, 0, 78, 42, 16, 48, 16, 32, 16, 51, 16, 32, 16, 59, 16, 32, 16, 32, 16, 32]
abbrev dktX8_init_13 : List UInt8 := dkwX8_init_13 ++ dktX8_init_14
def dkwX8_init_12 : List UInt8 := [16, 115, 16, 32, 16, 98, 182, 0, 78, 42, 16, 40, 16, 101, 16, 116, 16, 119, 16, 101, 16, 101, 16, 110]
abbrev dktX8_init_12 : List UInt8 := dkwX8_init_12 ++ dktX8_init_13
def dkwX8_init_11 : List UInt8 := [16, 59, 16, 32, 16, 113, 16, 117, 182, 0, 78, 42, 16, 32, 16, 97, 16, 114, 16, 114, 16, 101, 16, 108]
abbrev dktX8_init_11 : List UInt8 := dkwX8_init_11 ++ dktX8_init_12
def dkwX8_init_10 : List UInt8 := [16, 99, 16, 111, 16, 115, 16, 116, 16, 115, 182, 0, 78, 42, 16, 24, 16, 32, 16, 49, 16, 48, 16, 32]
abbrev dktX8_init_10 : List UInt8 := dkwX8_init_10 ++ dktX8_init_11
def dkwX8_init_9 : List UInt8 := [16, 43, 16, 32, 16, 104, 16, 111, 16, 117, 16, 114, 182, 0, 78, 42, 16, 16, 16, 32, 16, 59, 16, 32]
abbrev dktX8_init_9 : List UInt8 := dkwX8_init_9 ++ dktX8_init_10
def dkwX8_init_8 : List UInt8 := [16, 105, 16, 103, 16, 104, 16, 116, 16, 115, 16, 32, 16, 50, 182, 0, 78, 42, 16, 8, 16, 48, 16, 32]
abbrev dktX8_init_8 : List UInt8 := dkwX8_init_8 ++ dktX8_init_9
def dkwX8_init_7 : List UInt8 := [60, 27, 7, 162, 0, 16, 42, 180, 0, 29, 27, 2, 79, 132, 1, 1, 167, 255, 241, 42, 3, 16, 108]
abbrev dktX8_init_7 : List UInt8 := dkwX8_init_7 ++ dktX8_init_8
def dkwX8_init_6 : List UInt8 := [42, 7, 188, 10, 181, 0, 69, 42, 7, 188, 10, 181, 0, 72, 42, 17, 0, 160, 188, 10, 181, 0, 75, 3]
abbrev dktX8_init_6 : List UInt8 := dkwX8_init_6 ++ dktX8_init_7
def dkwX8_init_5 : List UInt8 := [188, 10, 181, 0, 57, 42, 7, 188, 10, 181, 0, 60, 42, 2, 181, 0, 63, 42, 7, 188, 4, 181, 0, 66]
abbrev dktX8_init_5 : List UInt8 := dkwX8_init_5 ++ dktX8_init_6
def dkwX8_init_4 : List UInt8 := [188, 10, 181, 0, 48, 42, 16, 6, 188, 10, 181, 0, 51, 42, 16, 18, 188, 10, 181, 0, 54, 42, 7]
abbrev dktX8_init_4 : List UInt8 := dkwX8_init_4 ++ dktX8_init_5
def dkwX8_init_3 : List UInt8 := [188, 10, 181, 0, 38, 42, 16, 6, 188, 10, 181, 0, 41, 42, 16, 108, 188, 4, 181, 0, 44, 42, 7]
abbrev dktX8_init_3 : List UInt8 := dkwX8_init_3 ++ dktX8_init_4
def dkwX8_init_2 : List UInt8 := [188, 10, 181, 0, 29, 42, 16, 6, 188, 10, 181, 0, 32, 42, 16, 18, 188, 10, 181, 0, 35, 42, 16, 24]
abbrev dktX8_init_2 : List UInt8 := dkwX8_init_2 ++ dktX8_init_3
def dkwX8_init_1 : List UInt8 := [17, 0, 160, 188, 10, 181, 0, 20, 42, 16, 100, 181, 0, 23, 42, 7, 188, 10, 181, 0, 26, 42, 7]
abbrev dktX8_init_1 : List UInt8 := dkwX8_init_1 ++ dktX8_init_2
def dkwX8_init_0 : List UInt8 := [42, 183, 0, 7, 42, 17, 3, 192, 188, 10, 181, 0, 13, 42, 16, 6, 188, 10, 181, 0, 17, 42]
abbrev dktX8_init_0 : List UInt8 := dkwX8_init_0 ++ dktX8_init_1
theorem dksX8_init_0 : cX8_init.data.toList.drop 0 = dktX8_init_0 := by decide +kernel
theorem dksX8_init_1 : cX8_init.data.toList.drop 22 = dktX8_init_1 := dk_seg dksX8_init_0 22 rfl rfl
theorem dksX8_init_2 : cX8_init.data.toList.drop 45 = dktX8_init_2 := dk_seg dksX8_init_1 23 rfl rfl
theorem dksX8_init_3 : cX8_init.data.toList.drop 69 = dktX8_init_3 := dk_seg dksX8_init_2 24 rfl rfl
theorem dksX8_init_4 : cX8_init.data.toList.drop 92 = dktX8_init_4 := dk_seg dksX8_init_3 23 rfl rfl
theorem dksX8_init_5 : cX8_init.data.toList.drop 115 = dktX8_init_5 := dk_seg dksX8_init_4 23 rfl rfl
theorem dksX8_init_6 : cX8_init.data.toList.drop 139 = dktX8_init_6 := dk_seg dksX8_init_5 24 rfl rfl
theorem dksX8_init_7 : cX8_init.data.toList.drop 163 = dktX8_init_7 := dk_seg dksX8_init_6 24 rfl rfl
theorem dksX8_init_8 : cX8_init.data.toList.drop 186 = dktX8_init_8 := dk_seg dksX8_init_7 23 rfl rfl
theorem dksX8_init_9 : cX8_init.data.toList.drop 210 = dktX8_init_9 := dk_seg dksX8_init_8 24 rfl rfl
theorem dksX8_init_10 : cX8_init.data.toList.drop 234 = dktX8_init_10 := dk_seg dksX8_init_9 24 rfl rfl
theorem dksX8_init_11 : cX8_init.data.toList.drop 258 = dktX8_init_11 := dk_seg dksX8_init_10 24 rfl rfl
theorem dksX8_init_12 : cX8_init.data.toList.drop 282 = dktX8_init_12 := dk_seg dksX8_init_11 24 rfl rfl
theorem dksX8_init_13 : cX8_init.data.toList.drop 306 = dktX8_init_13 := dk_seg dksX8_init_12 24 rfl rfl
theorem dksX8_init_14 : cX8_init.data.toList.drop 330 = dktX8_init_14 := dk_seg dksX8_init_13 24 rfl rfl
theorem dX8_init_0 : decode cX8_init 0 = .ok (.aload_n 0, 1) := dk_42 (dk_at dksX8_init_0 0 rfl rfl)
theorem dX8_init_1 : decode cX8_init 1 = .ok (.invokespecial 7, 3) := dk_183 0 7 (dk_at dksX8_init_0 1 rfl rfl)
theorem dX8_init_4 : decode cX8_init 4 = .ok (.aload_n 0, 1) := dk_42 (dk_at dksX8_init_0 4 rfl rfl)
theorem dX8_init_5 : decode cX8_init 5 = .ok (.sipush 960, 3) := dk_17 3 192 (dk_at dksX8_init_0 5 rfl rfl)
theorem dX8_init_8 : decode cX8_init 8 = .ok (.newarray .int, 2) := dk_188_10 (dk_at dksX8_init_0 8 rfl rfl)
theorem dX8_init_10 : decode cX8_init 10 = .ok (.putfield 13, 3) := dk_181 0 13 (dk_at dksX8_init_0 10 rfl rfl)
theorem dX8_init_13 : decode cX8_init 13 = .ok (.aload_n 0, 1) := dk_42 (dk_at dksX8_init_0 13 rfl rfl)
theorem dX8_init_14 : decode cX8_init 14 = .ok (.bipush 6, 2) := dk_16 6 (dk_at dksX8_init_0 14 rfl rfl)
theorem dX8_init_16 : decode cX8_init 16 = .ok (.newarray .int, 2) := dk_188_10 (dk_at dksX8_init_0 16 rfl rfl)
theorem dX8_init_18 : decode cX8_init 18 = .ok (.putfield 17, 3) := dk_181 0 17 (dk_at dksX8_init_0 18 rfl rfl)
theorem dX8_init_21 : decode cX8_init 21 = .ok (.aload_n 0, 1) := dk_42 (dk_at dksX8_init_0 21 rfl rfl)
theorem dX8_init_22 : decode cX8_init 22 = .ok (.sipush 160, 3) := dk_17 0 160 (dk_at dksX8_init_1 0 rfl rfl)
theorem dX8_init_25 : decode cX8_init 25 = .ok (.newarray .int, 2) := dk_188_10 (dk_at dksX8_init_1 3 rfl rfl)
theorem dX8_init_27 : decode cX8_init 27 = .ok (.putfield 20, 3) := dk_181 0 20 (dk_at dksX8_init_1 5 rfl rfl)
theorem dX8_init_30 : decode cX8_init 30 = .ok (.aload_n 0, 1) := dk_42 (dk_at dksX8_init_1 8 rfl rfl)
theorem dX8_init_31 : decode cX8_init 31 = .ok (.bipush 100, 2) := dk_16 100 (dk_at dksX8_init_1 9 rfl rfl)
theorem dX8_init_33 : decode cX8_init 33 = .ok (.putfield 23, 3) := dk_181 0 23 (dk_at dksX8_init_1 11 rfl rfl)
theorem dX8_init_36 : decode cX8_init 36 = .ok (.aload_n 0, 1) := dk_42 (dk_at dksX8_init_1 14 rfl rfl)
theorem dX8_init_37 : decode cX8_init 37 = .ok (.iconst 4, 1) := dk_7 (dk_at dksX8_init_1 15 rfl rfl)
theorem dX8_init_38 : decode cX8_init 38 = .ok (.newarray .int, 2) := dk_188_10 (dk_at dksX8_init_1 16 rfl rfl)
theorem dX8_init_40 : decode cX8_init 40 = .ok (.putfield 26, 3) := dk_181 0 26 (dk_at dksX8_init_1 18 rfl rfl)
theorem dX8_init_43 : decode cX8_init 43 = .ok (.aload_n 0, 1) := dk_42 (dk_at dksX8_init_1 21 rfl rfl)
theorem dX8_init_44 : decode cX8_init 44 = .ok (.iconst 4, 1) := dk_7 (dk_at dksX8_init_1 22 rfl rfl)
theorem dX8_init_45 : decode cX8_init 45 = .ok (.newarray .int, 2) := dk_188_10 (dk_at dksX8_init_2 0 rfl rfl)
theorem dX8_init_47 : decode cX8_init 47 = .ok (.putfield 29, 3) := dk_181 0 29 (dk_at dksX8_init_2 2 rfl rfl)
theorem dX8_init_50 : decode cX8_init 50 = .ok (.aload_n 0, 1) := dk_42 (dk_at dksX8_init_2 5 rfl rfl)
theorem dX8_init_51 : decode cX8_init 51 = .ok (.bipush 6, 2) := dk_16 6 (dk_at dksX8_init_2 6 rfl rfl)
theorem dX8_init_53 : decode cX8_init 53 = .ok (.newarray .int, 2) := dk_188_10 (dk_at dksX8_init_2 8 rfl rfl)
theorem dX8_init_55 : decode cX8_init 55 = .ok (.putfield 32, 3) := dk_181 0 32 (dk_at dksX8_init_2 10 rfl rfl)
theorem dX8_init_58 : decode cX8_init 58 = .ok (.aload_n 0, 1) := dk_42 (dk_at dksX8_init_2 13 rfl rfl)
theorem dX8_init_59 : decode cX8_init 59 = .ok (.bipush 18, 2) := dk_16 18 (dk_at dksX8_init_2 14 rfl rfl)
theorem dX8_init_61 : decode cX8_init 61 = .ok (.newarray .int, 2) := dk_188_10 (dk_at dksX8_init_2 16 rfl rfl)
theorem dX8_init_63 : decode cX8_init 63 = .ok (.putfield 35, 3) := dk_181 0 35 (dk_at dksX8_init_2 18 rfl rfl)
theorem dX8_init_66 : decode cX8_init 66 = .ok (.aload_n 0, 1) := dk_42 (dk_at dksX8_init_2 21 rfl rfl)
theorem dX8_init_67 : decode cX8_init 67 = .ok (.bipush 24, 2) := dk_16 24 (dk_at dksX8_init_2 22 rfl rfl)
theorem dX8_init_69 : decode cX8_init 69 = .ok (.newarray .int, 2) := dk_188_10 (dk_at dksX8_init_3 0 rfl rfl)
theorem dX8_init_71 : decode cX8_init 71 = .ok (.putfield 38, 3) := dk_181 0 38 (dk_at dksX8_init_3 2 rfl rfl)
theorem dX8_init_74 : decode cX8_init 74 = .ok (.aload_n 0, 1) := dk_42 (dk_at dksX8_init_3 5 rfl rfl)
theorem dX8_init_75 : decode cX8_init 75 = .ok (.bipush 6, 2) := dk_16 6 (dk_at dksX8_init_3 6 rfl rfl)
theorem dX8_init_77 : decode cX8_init 77 = .ok (.newarray .int, 2) := dk_188_10 (dk_at dksX8_init_3 8 rfl rfl)
theorem dX8_init_79 : decode cX8_init 79 = .ok (.putfield 41, 3) := dk_181 0 41 (dk_at dksX8_init_3 10 rfl rfl)
theorem dX8_init_82 : decode cX8_init 82 = .ok (.aload_n 0, 1) := dk_42 (dk_at dksX8_init_3 13 rfl rfl)
theorem dX8_init_83 : decode cX8_init 83 = .ok (.bipush 108, 2) := dk_16 108 (dk_at dksX8_init_3 14 rfl rfl)
theorem dX8_init_85 : decode cX8_init 85 = .ok (.newarray .boolean, 2) := dk_188_4 (dk_at dksX8_init_3 16 rfl rfl)
theorem dX8_init_87 : decode cX8_init 87 = .ok (.putfield 44, 3) := dk_181 0 44 (dk_at dksX8_init_3 18 rfl rfl)
theorem dX8_init_90 : decode cX8_init 90 = .ok (.aload_n 0, 1) := dk_42 (dk_at dksX8_init_3 21 rfl rfl)
theorem dX8_init_91 : decode cX8_init 91 = .ok (.iconst 4, 1) := dk_7 (dk_at dksX8_init_3 22 rfl rfl)
theorem dX8_init_92 : decode cX8_init 92 = .ok (.newarray .int, 2) := dk_188_10 (dk_at dksX8_init_4 0 rfl rfl)
theorem dX8_init_94 : decode cX8_init 94 = .ok (.putfield 48, 3) := dk_181 0 48 (dk_at dksX8_init_4 2 rfl rfl)
theorem dX8_init_97 : decode cX8_init 97 = .ok (.aload_n 0, 1) := dk_42 (dk_at dksX8_init_4 5 rfl rfl)
theorem dX8_init_98 : decode cX8_init 98 = .ok (.bipush 6, 2) := dk_16 6 (dk_at dksX8_init_4 6 rfl rfl)
theorem dX8_init_100 : decode cX8_init 100 = .ok (.newarray .int, 2) := dk_188_10 (dk_at dksX8_init_4 8 rfl rfl)
theorem dX8_init_102 : decode cX8_init 102 = .ok (.putfield 51, 3) := dk_181 0 51 (dk_at dksX8_init_4 10 rfl rfl)
theorem dX8_init_105 : decode cX8_init 105 = .ok (.aload_n 0, 1) := dk_42 (dk_at dksX8_init_4 13 rfl rfl)
theorem dX8_init_106 : decode cX8_init 106 = .ok (.bipush 18, 2) := dk_16 18 (dk_at dksX8_init_4 14 rfl rfl)
theorem dX8_init_108 : decode cX8_init 108 = .ok (.newarray .int, 2) := dk_188_10 (dk_at dksX8_init_4 16 rfl rfl)
theorem dX8_init_110 : decode cX8_init 110 = .ok (.putfield 54, 3) := dk_181 0 54 (dk_at dksX8_init_4 18 rfl rfl)
theorem dX8_init_113 : decode cX8_init 113 = .ok (.aload_n 0, 1) := dk_42 (dk_at dksX8_init_4 21 rfl rfl)
theorem dX8_init_114 : decode cX8_init 114 = .ok (.iconst 4, 1) := dk_7 (dk_at dksX8_init_4 22 rfl rfl)
theorem dX8_init_115 : decode cX8_init 115 = .ok (.newarray .int, 2) := dk_188_10 (dk_at dksX8_init_5 0 rfl rfl)
theorem dX8_init_117 : decode cX8_init 117 = .ok (.putfield 57, 3) := dk_181 0 57 (dk_at dksX8_init_5 2 rfl rfl)
theorem dX8_init_120 : decode cX8_init 120 = .ok (.aload_n 0, 1) := dk_42 (dk_at dksX8_init_5 5 rfl rfl)
theorem dX8_init_121 : decode cX8_init 121 = .ok (.iconst 4, 1) := dk_7 (dk_at dksX8_init_5 6 rfl rfl)
theorem dX8_init_122 : decode cX8_init 122 = .ok (.newarray .int, 2) := dk_188_10 (dk_at dksX8_init_5 7 rfl rfl)
theorem dX8_init_124 : decode cX8_init 124 = .ok (.putfield 60, 3) := dk_181 0 60 (dk_at dksX8_init_5 9 rfl rfl)
theorem dX8_init_127 : decode cX8_init 127 = .ok (.aload_n 0, 1) := dk_42 (dk_at dksX8_init_5 12 rfl rfl)
theorem dX8_init_128 : decode cX8_init 128 = .ok (.iconst (-1), 1) := dk_2 (dk_at dksX8_init_5 13 rfl rfl)
theorem dX8_init_129 : decode cX8_init 129 = .ok (.putfield 63, 3) := dk_181 0 63 (dk_at dksX8_init_5 14 rfl rfl)
theorem dX8_init_132 : decode cX8_init 132 = .ok (.aload_n 0, 1) := dk_42 (dk_at dksX8_init_5 17 rfl rfl)
theorem dX8_init_133 : decode cX8_init 133 = .ok (.iconst 4, 1) := dk_7 (dk_at dksX8_init_5 18 rfl rfl)
theorem dX8_init_134 : decode cX8_init 134 = .ok (.newarray .boolean, 2) := dk_188_4 (dk_at dksX8_init_5 19 rfl rfl)
theorem dX8_init_136 : decode cX8_init 136 = .ok (.putfield 66, 3) := dk_181 0 66 (dk_at dksX8_init_5 21 rfl rfl)
theorem dX8_init_139 : decode cX8_init 139 = .ok (.aload_n 0, 1) := dk_42 (dk_at dksX8_init_6 0 rfl rfl)
theorem dX8_init_140 : decode cX8_init 140 = .ok (.iconst 4, 1) := dk_7 (dk_at dksX8_init_6 1 rfl rfl)
theorem dX8_init_141 : decode cX8_init 141 = .ok (.newarray .int, 2) := dk_188_10 (dk_at dksX8_init_6 2 rfl rfl)
theorem dX8_init_143 : decode cX8_init 143 = .ok (.putfield 69, 3) := dk_181 0 69 (dk_at dksX8_init_6 4 rfl rfl)
theorem dX8_init_146 : decode cX8_init 146 = .ok (.aload_n 0, 1) := dk_42 (dk_at dksX8_init_6 7 rfl rfl)
theorem dX8_init_147 : decode cX8_init 147 = .ok (.iconst 4, 1) := dk_7 (dk_at dksX8_init_6 8 rfl rfl)
theorem dX8_init_148 : decode cX8_init 148 = .ok (.newarray .int, 2) := dk_188_10 (dk_at dksX8_init_6 9 rfl rfl)
theorem dX8_init_150 : decode cX8_init 150 = .ok (.putfield 72, 3) := dk_181 0 72 (dk_at dksX8_init_6 11 rfl rfl)
theorem dX8_init_153 : decode cX8_init 153 = .ok (.aload_n 0, 1) := dk_42 (dk_at dksX8_init_6 14 rfl rfl)
theorem dX8_init_154 : decode cX8_init 154 = .ok (.sipush 160, 3) := dk_17 0 160 (dk_at dksX8_init_6 15 rfl rfl)
theorem dX8_init_157 : decode cX8_init 157 = .ok (.newarray .int, 2) := dk_188_10 (dk_at dksX8_init_6 18 rfl rfl)
theorem dX8_init_159 : decode cX8_init 159 = .ok (.putfield 75, 3) := dk_181 0 75 (dk_at dksX8_init_6 20 rfl rfl)
theorem dX8_init_162 : decode cX8_init 162 = .ok (.iconst 0, 1) := dk_3 (dk_at dksX8_init_6 23 rfl rfl)
theorem dX8_init_163 : decode cX8_init 163 = .ok (.istore_n 1, 1) := dk_60 (dk_at dksX8_init_7 0 rfl rfl)
theorem dX8_init_164 : decode cX8_init 164 = .ok (.iload_n 1, 1) := dk_27 (dk_at dksX8_init_7 1 rfl rfl)
theorem dX8_init_165 : decode cX8_init 165 = .ok (.iconst 4, 1) := dk_7 (dk_at dksX8_init_7 2 rfl rfl)
theorem dX8_init_166 : decode cX8_init 166 = .ok (.if_icmp .ge 16, 3) := dk_162 0 16 (dk_at dksX8_init_7 3 rfl rfl)
theorem dX8_init_169 : decode cX8_init 169 = .ok (.aload_n 0, 1) := dk_42 (dk_at dksX8_init_7 6 rfl rfl)
theorem dX8_init_170 : decode cX8_init 170 = .ok (.getfield 29, 3) := dk_180 0 29 (dk_at dksX8_init_7 7 rfl rfl)
theorem dX8_init_173 : decode cX8_init 173 = .ok (.iload_n 1, 1) := dk_27 (dk_at dksX8_init_7 10 rfl rfl)
theorem dX8_init_174 : decode cX8_init 174 = .ok (.iconst (-1), 1) := dk_2 (dk_at dksX8_init_7 11 rfl rfl)
theorem dX8_init_175 : decode cX8_init 175 = .ok (.iastore, 1) := dk_79 (dk_at dksX8_init_7 12 rfl rfl)
theorem dX8_init_176 : decode cX8_init 176 = .ok (.iinc 1 1, 3) := dk_132 1 1 (dk_at dksX8_init_7 13 rfl rfl)
theorem dX8_init_179 : decode cX8_init 179 = .ok (.goto (-15), 3) := dk_167 255 241 (dk_at dksX8_init_7 16 rfl rfl)
theorem dX8_init_182 : decode cX8_init 182 = .ok (.aload_n 0, 1) := dk_42 (dk_at dksX8_init_7 19 rfl rfl)
theorem dX8_init_183 : decode cX8_init 183 = .ok (.iconst 0, 1) := dk_3 (dk_at dksX8_init_7 20 rfl rfl)
theorem dX8_init_184 : decode cX8_init 184 = .ok (.bipush 108, 2) := dk_16 108 (dk_at dksX8_init_7 21 rfl rfl)
theorem dX8_init_186 : decode cX8_init 186 = .ok (.bipush 105, 2) := dk_16 105 (dk_at dksX8_init_8 0 rfl rfl)
theorem dX8_init_188 : decode cX8_init 188 = .ok (.bipush 103, 2) := dk_16 103 (dk_at dksX8_init_8 2 rfl rfl)
theorem dX8_init_190 : decode cX8_init 190 = .ok (.bipush 104, 2) := dk_16 104 (dk_at dksX8_init_8 4 rfl rfl)
theorem dX8_init_192 : decode cX8_init 192 = .ok (.bipush 116, 2) := dk_16 116 (dk_at dksX8_init_8 6 rfl rfl)
theorem dX8_init_194 : decode cX8_init 194 = .ok (.bipush 115, 2) := dk_16 115 (dk_at dksX8_init_8 8 rfl rfl)
theorem dX8_init_196 : decode cX8_init 196 = .ok (.bipush 32, 2) := dk_16 32 (dk_at dksX8_init_8 10 rfl rfl)
theorem dX8_init_198 : decode cX8_init 198 = .ok (.bipush 50, 2) := dk_16 50 (dk_at dksX8_init_8 12 rfl rfl)
theorem dX8_init_200 : decode cX8_init 200 = .ok (.invokevirtual 78, 3) := dk_182 0 78 (dk_at dksX8_init_8 14 rfl rfl)
theorem dX8_init_203 : decode cX8_init 203 = .ok (.aload_n 0, 1) := dk_42 (dk_at dksX8_init_8 17 rfl rfl)
theorem dX8_init_204 : decode cX8_init 204 = .ok (.bipush 8, 2) := dk_16 8 (dk_at dksX8_init_8 18 rfl rfl)
theorem dX8_init_206 : decode cX8_init 206 = .ok (.bipush 48, 2) := dk_16 48 (dk_at dksX8_init_8 20 rfl rfl)
theorem dX8_init_208 : decode cX8_init 208 = .ok (.bipush 32, 2) := dk_16 32 (dk_at dksX8_init_8 22 rfl rfl)
theorem dX8_init_210 : decode cX8_init 210 = .ok (.bipush 43, 2) := dk_16 43 (dk_at dksX8_init_9 0 rfl rfl)
theorem dX8_init_212 : decode cX8_init 212 = .ok (.bipush 32, 2) := dk_16 32 (dk_at dksX8_init_9 2 rfl rfl)
theorem dX8_init_214 : decode cX8_init 214 = .ok (.bipush 104, 2) := dk_16 104 (dk_at dksX8_init_9 4 rfl rfl)
theorem dX8_init_216 : decode cX8_init 216 = .ok (.bipush 111, 2) := dk_16 111 (dk_at dksX8_init_9 6 rfl rfl)
theorem dX8_init_218 : decode cX8_init 218 = .ok (.bipush 117, 2) := dk_16 117 (dk_at dksX8_init_9 8 rfl rfl)
theorem dX8_init_220 : decode cX8_init 220 = .ok (.bipush 114, 2) := dk_16 114 (dk_at dksX8_init_9 10 rfl rfl)
theorem dX8_init_222 : decode cX8_init 222 = .ok (.invokevirtual 78, 3) := dk_182 0 78 (dk_at dksX8_init_9 12 rfl rfl)
theorem dX8_init_225 : decode cX8_init 225 = .ok (.aload_n 0, 1) := dk_42 (dk_at dksX8_init_9 15 rfl rfl)
theorem dX8_init_226 : decode cX8_init 226 = .ok (.bipush 16, 2) := dk_16 16 (dk_at dksX8_init_9 16 rfl rfl)
theorem dX8_init_228 : decode cX8_init 228 = .ok (.bipush 32, 2) := dk_16 32 (dk_at dksX8_init_9 18 rfl rfl)
theorem dX8_init_230 : decode cX8_init 230 = .ok (.bipush 59, 2) := dk_16 59 (dk_at dksX8_init_9 20 rfl rfl)
theorem dX8_init_232 : decode cX8_init 232 = .ok (.bipush 32, 2) := dk_16 32 (dk_at dksX8_init_9 22 rfl rfl)
theorem dX8_init_234 : decode cX8_init 234 = .ok (.bipush 99, 2) := dk_16 99 (dk_at dksX8_init_10 0 rfl rfl)
theorem dX8_init_236 : decode cX8_init 236 = .ok (.bipush 111, 2) := dk_16 111 (dk_at dksX8_init_10 2 rfl rfl)
theorem dX8_init_238 : decode cX8_init 238 = .ok (.bipush 115, 2) := dk_16 115 (dk_at dksX8_init_10 4 rfl rfl)
theorem dX8_init_240 : decode cX8_init 240 = .ok (.bipush 116, 2) := dk_16 116 (dk_at dksX8_init_10 6 rfl rfl)
theorem dX8_init_242 : decode cX8_init 242 = .ok (.bipush 115, 2) := dk_16 115 (dk_at dksX8_init_10 8 rfl rfl)
theorem dX8_init_244 : decode cX8_init 244 = .ok (.invokevirtual 78, 3) := dk_182 0 78 (dk_at dksX8_init_10 10 rfl rfl)
theorem dX8_init_247 : decode cX8_init 247 = .ok (.aload_n 0, 1) := dk_42 (dk_at dksX8_init_10 13 rfl rfl)
theorem dX8_init_248 : decode cX8_init 248 = .ok (.bipush 24, 2) := dk_16 24 (dk_at dksX8_init_10 14 rfl rfl)
theorem dX8_init_250 : decode cX8_init 250 = .ok (.bipush 32, 2) := dk_16 32 (dk_at dksX8_init_10 16 rfl rfl)
theorem dX8_init_252 : decode cX8_init 252 = .ok (.bipush 49, 2) := dk_16 49 (dk_at dksX8_init_10 18 rfl rfl)
theorem dX8_init_254 : decode cX8_init 254 = .ok (.bipush 48, 2) := dk_16 48 (dk_at dksX8_init_10 20 rfl rfl)
theorem dX8_init_256 : decode cX8_init 256 = .ok (.bipush 32, 2) := dk_16 32 (dk_at dksX8_init_10 22 rfl rfl)
theorem dX8_init_258 : decode cX8_init 258 = .ok (.bipush 59, 2) := dk_16 59 (dk_at dksX8_init_11 0 rfl rfl)
theorem dX8_init_260 : decode cX8_init 260 = .ok (.bipush 32, 2) := dk_16 32 (dk_at dksX8_init_11 2 rfl rfl)
theorem dX8_init_262 : decode cX8_init 262 = .ok (.bipush 113, 2) := dk_16 113 (dk_at dksX8_init_11 4 rfl rfl)
theorem dX8_init_264 : decode cX8_init 264 = .ok (.bipush 117, 2) := dk_16 117 (dk_at dksX8_init_11 6 rfl rfl)
theorem dX8_init_266 : decode cX8_init 266 = .ok (.invokevirtual 78, 3) := dk_182 0 78 (dk_at dksX8_init_11 8 rfl rfl)
theorem dX8_init_269 : decode cX8_init 269 = .ok (.aload_n 0, 1) := dk_42 (dk_at dksX8_init_11 11 rfl rfl)
theorem dX8_init_270 : decode cX8_init 270 = .ok (.bipush 32, 2) := dk_16 32 (dk_at dksX8_init_11 12 rfl rfl)
theorem dX8_init_272 : decode cX8_init 272 = .ok (.bipush 97, 2) := dk_16 97 (dk_at dksX8_init_11 14 rfl rfl)
theorem dX8_init_274 : decode cX8_init 274 = .ok (.bipush 114, 2) := dk_16 114 (dk_at dksX8_init_11 16 rfl rfl)
theorem dX8_init_276 : decode cX8_init 276 = .ok (.bipush 114, 2) := dk_16 114 (dk_at dksX8_init_11 18 rfl rfl)
theorem dX8_init_278 : decode cX8_init 278 = .ok (.bipush 101, 2) := dk_16 101 (dk_at dksX8_init_11 20 rfl rfl)
theorem dX8_init_280 : decode cX8_init 280 = .ok (.bipush 108, 2) := dk_16 108 (dk_at dksX8_init_11 22 rfl rfl)
theorem dX8_init_282 : decode cX8_init 282 = .ok (.bipush 115, 2) := dk_16 115 (dk_at dksX8_init_12 0 rfl rfl)
theorem dX8_init_284 : decode cX8_init 284 = .ok (.bipush 32, 2) := dk_16 32 (dk_at dksX8_init_12 2 rfl rfl)
theorem dX8_init_286 : decode cX8_init 286 = .ok (.bipush 98, 2) := dk_16 98 (dk_at dksX8_init_12 4 rfl rfl)
theorem dX8_init_288 : decode cX8_init 288 = .ok (.invokevirtual 78, 3) := dk_182 0 78 (dk_at dksX8_init_12 6 rfl rfl)
theorem dX8_init_291 : decode cX8_init 291 = .ok (.aload_n 0, 1) := dk_42 (dk_at dksX8_init_12 9 rfl rfl)
theorem dX8_init_292 : decode cX8_init 292 = .ok (.bipush 40, 2) := dk_16 40 (dk_at dksX8_init_12 10 rfl rfl)
theorem dX8_init_294 : decode cX8_init 294 = .ok (.bipush 101, 2) := dk_16 101 (dk_at dksX8_init_12 12 rfl rfl)
theorem dX8_init_296 : decode cX8_init 296 = .ok (.bipush 116, 2) := dk_16 116 (dk_at dksX8_init_12 14 rfl rfl)
theorem dX8_init_298 : decode cX8_init 298 = .ok (.bipush 119, 2) := dk_16 119 (dk_at dksX8_init_12 16 rfl rfl)
theorem dX8_init_300 : decode cX8_init 300 = .ok (.bipush 101, 2) := dk_16 101 (dk_at dksX8_init_12 18 rfl rfl)
theorem dX8_init_302 : decode cX8_init 302 = .ok (.bipush 101, 2) := dk_16 101 (dk_at dksX8_init_12 20 rfl rfl)
theorem dX8_init_304 : decode cX8_init 304 = .ok (.bipush 110, 2) := dk_16 110 (dk_at dksX8_init_12 22 rfl rfl)
theorem dX8_init_306 : decode cX8_init 306 = .ok (.bipush 32, 2) := dk_16 32 (dk_at dksX8_init_13 0 rfl rfl)
theorem dX8_init_308 : decode cX8_init 308 = .ok (.bipush 60, 2) := dk_16 60 (dk_at dksX8_init_13 2 rfl rfl)
theorem dX8_init_310 : decode cX8_init 310 = .ok (.invokevirtual 78, 3) := dk_182 0 78 (dk_at dksX8_init_13 4 rfl rfl)
theorem dX8_init_313 : decode cX8_init 313 = .ok (.aload_n 0, 1) := dk_42 (dk_at dksX8_init_13 7 rfl rfl)
theorem dX8_init_314 : decode cX8_init 314 = .ok (.bipush 48, 2) := dk_16 48 (dk_at dksX8_init_13 8 rfl rfl)
theorem dX8_init_316 : decode cX8_init 316 = .ok (.bipush 32, 2) := dk_16 32 (dk_at dksX8_init_13 10 rfl rfl)
theorem dX8_init_318 : decode cX8_init 318 = .ok (.bipush 51, 2) := dk_16 51 (dk_at dksX8_init_13 12 rfl rfl)
theorem dX8_init_320 : decode cX8_init 320 = .ok (.bipush 32, 2) := dk_16 32 (dk_at dksX8_init_13 14 rfl rfl)
theorem dX8_init_322 : decode cX8_init 322 = .ok (.bipush 59, 2) := dk_16 59 (dk_at dksX8_init_13 16 rfl rfl)
theorem dX8_init_324 : decode cX8_init 324 = .ok (.bipush 32, 2) := dk_16 32 (dk_at dksX8_init_13 18 rfl rfl)
theorem dX8_init_326 : decode cX8_init 326 = .ok (.bipush 32, 2) := dk_16 32 (dk_at dksX8_init_13 20 rfl rfl)
theorem dX8_init_328 : decode cX8_init 328 = .ok (.bipush 32, 2) := dk_16 32 (dk_at dksX8_init_13 22 rfl rfl)
theorem dX8_init_330 : decode cX8_init 330 = .ok (.bipush 32, 2) := dk_16 32 (dk_at dksX8_init_14 0 rfl rfl)
theorem dX8_init_332 : decode cX8_init 332 = .ok (.invokevirtual 78, 3) := dk_182 0 78 (dk_at dksX8_init_14 2 rfl rfl)
theorem dX8_init_335 : decode cX8_init 335 = .ok (.aload_n 0, 1) := dk_42 (dk_at dksX8_init_14 5 rfl rfl)
theorem dX8_init_336 : decode cX8_init 336 = .ok (.getfield 17, 3) := dk_180 0 17 (dk_at dksX8_init_14 6 rfl rfl)
theorem dX8_init_339 : decode cX8_init 339 = .ok (.iconst 0, 1) := dk_3 (dk_at dksX8_init_14 9 rfl rfl)
theorem dX8_init_340 : decode cX8_init 340 = .ok (.bipush 56, 2) := dk_16 56 (dk_at dksX8_init_14 10 rfl rfl)
theorem dX8_init_342 : decode cX8_init 342 = .ok (.iastore, 1) := dk_79 (dk_at dksX8_init_14 12 rfl rfl)
theorem dX8_init_343 : decode cX8_init 343 = .ok (.aload_n 0, 1) := dk_42 (dk_at dksX8_init_14 13 rfl rfl)
theorem dX8_init_344 : decode cX8_init 344 = .ok (.iconst 1, 1) := dk_4 (dk_at dksX8_init_14 14 rfl rfl)
theorem dX8_init_345 : decode cX8_init 345 = .ok (.putfield 82, 3) := dk_181 0 82 (dk_at dksX8_init_14 15 rfl rfl)
theorem dX8_init_348 : decode cX8_init 348 = .ok (.return_, 1) := dk_177 (dk_at dksX8_init_14 18 rfl rfl)
abbrev cX8_spell : ByteArray := prog_16_method_5_code
def yX8_spell : MethodName := ⟨RX8, "spell", "(IIIIIIIII)V"⟩
def dkwX8_spell_3 : List UInt8 := [27, 16, 7, 96, 21, 9, 79, 177]
abbrev dktX8_spell_3 : List UInt8 := dkwX8_spell_3 ++ []
def dkwX8_spell_2 : List UInt8 := [180, 0, 13, 27, 8, 96, 21, 7, 79, 42, 180, 0, 13, 27, 16, 6, 96, 21, 8, 79, 42, 180, 0, 13]
abbrev dktX8_spell_2 : List UInt8 := dkwX8_spell_2 ++ dktX8_spell_3
def dkwX8_spell_1 : List UInt8 := [21, 4, 79, 42, 180, 0, 13, 27, 6, 96, 21, 5, 79, 42, 180, 0, 13, 27, 7, 96, 21, 6, 79, 42]
abbrev dktX8_spell_1 : List UInt8 := dkwX8_spell_1 ++ dktX8_spell_2
def dkwX8_spell_0 : List UInt8 := [42, 180, 0, 13, 27, 28, 79, 42, 180, 0, 13, 27, 4, 96, 29, 79, 42, 180, 0, 13, 27, 5, 96]
abbrev dktX8_spell_0 : List UInt8 := dkwX8_spell_0 ++ dktX8_spell_1
theorem dksX8_spell_0 : cX8_spell.data.toList.drop 0 = dktX8_spell_0 := by decide +kernel
theorem dksX8_spell_1 : cX8_spell.data.toList.drop 23 = dktX8_spell_1 := dk_seg dksX8_spell_0 23 rfl rfl
theorem dksX8_spell_2 : cX8_spell.data.toList.drop 47 = dktX8_spell_2 := dk_seg dksX8_spell_1 24 rfl rfl
theorem dksX8_spell_3 : cX8_spell.data.toList.drop 71 = dktX8_spell_3 := dk_seg dksX8_spell_2 24 rfl rfl
theorem dX8_spell_0 : decode cX8_spell 0 = .ok (.aload_n 0, 1) := dk_42 (dk_at dksX8_spell_0 0 rfl rfl)
theorem dX8_spell_1 : decode cX8_spell 1 = .ok (.getfield 13, 3) := dk_180 0 13 (dk_at dksX8_spell_0 1 rfl rfl)
theorem dX8_spell_4 : decode cX8_spell 4 = .ok (.iload_n 1, 1) := dk_27 (dk_at dksX8_spell_0 4 rfl rfl)
theorem dX8_spell_5 : decode cX8_spell 5 = .ok (.iload_n 2, 1) := dk_28 (dk_at dksX8_spell_0 5 rfl rfl)
theorem dX8_spell_6 : decode cX8_spell 6 = .ok (.iastore, 1) := dk_79 (dk_at dksX8_spell_0 6 rfl rfl)
theorem dX8_spell_7 : decode cX8_spell 7 = .ok (.aload_n 0, 1) := dk_42 (dk_at dksX8_spell_0 7 rfl rfl)
theorem dX8_spell_8 : decode cX8_spell 8 = .ok (.getfield 13, 3) := dk_180 0 13 (dk_at dksX8_spell_0 8 rfl rfl)
theorem dX8_spell_11 : decode cX8_spell 11 = .ok (.iload_n 1, 1) := dk_27 (dk_at dksX8_spell_0 11 rfl rfl)
theorem dX8_spell_12 : decode cX8_spell 12 = .ok (.iconst 1, 1) := dk_4 (dk_at dksX8_spell_0 12 rfl rfl)
theorem dX8_spell_13 : decode cX8_spell 13 = .ok (.iadd, 1) := dk_96 (dk_at dksX8_spell_0 13 rfl rfl)
theorem dX8_spell_14 : decode cX8_spell 14 = .ok (.iload_n 3, 1) := dk_29 (dk_at dksX8_spell_0 14 rfl rfl)
theorem dX8_spell_15 : decode cX8_spell 15 = .ok (.iastore, 1) := dk_79 (dk_at dksX8_spell_0 15 rfl rfl)
theorem dX8_spell_16 : decode cX8_spell 16 = .ok (.aload_n 0, 1) := dk_42 (dk_at dksX8_spell_0 16 rfl rfl)
theorem dX8_spell_17 : decode cX8_spell 17 = .ok (.getfield 13, 3) := dk_180 0 13 (dk_at dksX8_spell_0 17 rfl rfl)
theorem dX8_spell_20 : decode cX8_spell 20 = .ok (.iload_n 1, 1) := dk_27 (dk_at dksX8_spell_0 20 rfl rfl)
theorem dX8_spell_21 : decode cX8_spell 21 = .ok (.iconst 2, 1) := dk_5 (dk_at dksX8_spell_0 21 rfl rfl)
theorem dX8_spell_22 : decode cX8_spell 22 = .ok (.iadd, 1) := dk_96 (dk_at dksX8_spell_0 22 rfl rfl)
theorem dX8_spell_23 : decode cX8_spell 23 = .ok (.iload 4, 2) := dk_21 4 (dk_at dksX8_spell_1 0 rfl rfl)
theorem dX8_spell_25 : decode cX8_spell 25 = .ok (.iastore, 1) := dk_79 (dk_at dksX8_spell_1 2 rfl rfl)
theorem dX8_spell_26 : decode cX8_spell 26 = .ok (.aload_n 0, 1) := dk_42 (dk_at dksX8_spell_1 3 rfl rfl)
theorem dX8_spell_27 : decode cX8_spell 27 = .ok (.getfield 13, 3) := dk_180 0 13 (dk_at dksX8_spell_1 4 rfl rfl)
theorem dX8_spell_30 : decode cX8_spell 30 = .ok (.iload_n 1, 1) := dk_27 (dk_at dksX8_spell_1 7 rfl rfl)
theorem dX8_spell_31 : decode cX8_spell 31 = .ok (.iconst 3, 1) := dk_6 (dk_at dksX8_spell_1 8 rfl rfl)
theorem dX8_spell_32 : decode cX8_spell 32 = .ok (.iadd, 1) := dk_96 (dk_at dksX8_spell_1 9 rfl rfl)
theorem dX8_spell_33 : decode cX8_spell 33 = .ok (.iload 5, 2) := dk_21 5 (dk_at dksX8_spell_1 10 rfl rfl)
theorem dX8_spell_35 : decode cX8_spell 35 = .ok (.iastore, 1) := dk_79 (dk_at dksX8_spell_1 12 rfl rfl)
theorem dX8_spell_36 : decode cX8_spell 36 = .ok (.aload_n 0, 1) := dk_42 (dk_at dksX8_spell_1 13 rfl rfl)
theorem dX8_spell_37 : decode cX8_spell 37 = .ok (.getfield 13, 3) := dk_180 0 13 (dk_at dksX8_spell_1 14 rfl rfl)
theorem dX8_spell_40 : decode cX8_spell 40 = .ok (.iload_n 1, 1) := dk_27 (dk_at dksX8_spell_1 17 rfl rfl)
theorem dX8_spell_41 : decode cX8_spell 41 = .ok (.iconst 4, 1) := dk_7 (dk_at dksX8_spell_1 18 rfl rfl)
theorem dX8_spell_42 : decode cX8_spell 42 = .ok (.iadd, 1) := dk_96 (dk_at dksX8_spell_1 19 rfl rfl)
theorem dX8_spell_43 : decode cX8_spell 43 = .ok (.iload 6, 2) := dk_21 6 (dk_at dksX8_spell_1 20 rfl rfl)
theorem dX8_spell_45 : decode cX8_spell 45 = .ok (.iastore, 1) := dk_79 (dk_at dksX8_spell_1 22 rfl rfl)
theorem dX8_spell_46 : decode cX8_spell 46 = .ok (.aload_n 0, 1) := dk_42 (dk_at dksX8_spell_1 23 rfl rfl)
theorem dX8_spell_47 : decode cX8_spell 47 = .ok (.getfield 13, 3) := dk_180 0 13 (dk_at dksX8_spell_2 0 rfl rfl)
theorem dX8_spell_50 : decode cX8_spell 50 = .ok (.iload_n 1, 1) := dk_27 (dk_at dksX8_spell_2 3 rfl rfl)
theorem dX8_spell_51 : decode cX8_spell 51 = .ok (.iconst 5, 1) := dk_8 (dk_at dksX8_spell_2 4 rfl rfl)
theorem dX8_spell_52 : decode cX8_spell 52 = .ok (.iadd, 1) := dk_96 (dk_at dksX8_spell_2 5 rfl rfl)
theorem dX8_spell_53 : decode cX8_spell 53 = .ok (.iload 7, 2) := dk_21 7 (dk_at dksX8_spell_2 6 rfl rfl)
theorem dX8_spell_55 : decode cX8_spell 55 = .ok (.iastore, 1) := dk_79 (dk_at dksX8_spell_2 8 rfl rfl)
theorem dX8_spell_56 : decode cX8_spell 56 = .ok (.aload_n 0, 1) := dk_42 (dk_at dksX8_spell_2 9 rfl rfl)
theorem dX8_spell_57 : decode cX8_spell 57 = .ok (.getfield 13, 3) := dk_180 0 13 (dk_at dksX8_spell_2 10 rfl rfl)
theorem dX8_spell_60 : decode cX8_spell 60 = .ok (.iload_n 1, 1) := dk_27 (dk_at dksX8_spell_2 13 rfl rfl)
theorem dX8_spell_61 : decode cX8_spell 61 = .ok (.bipush 6, 2) := dk_16 6 (dk_at dksX8_spell_2 14 rfl rfl)
theorem dX8_spell_63 : decode cX8_spell 63 = .ok (.iadd, 1) := dk_96 (dk_at dksX8_spell_2 16 rfl rfl)
theorem dX8_spell_64 : decode cX8_spell 64 = .ok (.iload 8, 2) := dk_21 8 (dk_at dksX8_spell_2 17 rfl rfl)
theorem dX8_spell_66 : decode cX8_spell 66 = .ok (.iastore, 1) := dk_79 (dk_at dksX8_spell_2 19 rfl rfl)
theorem dX8_spell_67 : decode cX8_spell 67 = .ok (.aload_n 0, 1) := dk_42 (dk_at dksX8_spell_2 20 rfl rfl)
theorem dX8_spell_68 : decode cX8_spell 68 = .ok (.getfield 13, 3) := dk_180 0 13 (dk_at dksX8_spell_2 21 rfl rfl)
theorem dX8_spell_71 : decode cX8_spell 71 = .ok (.iload_n 1, 1) := dk_27 (dk_at dksX8_spell_3 0 rfl rfl)
theorem dX8_spell_72 : decode cX8_spell 72 = .ok (.bipush 7, 2) := dk_16 7 (dk_at dksX8_spell_3 1 rfl rfl)
theorem dX8_spell_74 : decode cX8_spell 74 = .ok (.iadd, 1) := dk_96 (dk_at dksX8_spell_3 3 rfl rfl)
theorem dX8_spell_75 : decode cX8_spell 75 = .ok (.iload 9, 2) := dk_21 9 (dk_at dksX8_spell_3 4 rfl rfl)
theorem dX8_spell_77 : decode cX8_spell 77 = .ok (.iastore, 1) := dk_79 (dk_at dksX8_spell_3 6 rfl rfl)
theorem dX8_spell_78 : decode cX8_spell 78 = .ok (.return_, 1) := dk_177 (dk_at dksX8_spell_3 7 rfl rfl)
abbrev cX8_set : ByteArray := prog_16_method_10_code
def yX8_set : MethodName := ⟨RX8, "set", "(III)I"⟩
def dkwX8_set_2 : List UInt8 := [28, 29, 182, 0, 115, 21, 4, 172]
abbrev dktX8_set_2 : List UInt8 := dkwX8_set_2 ++ []
def dkwX8_set_1 : List UInt8 := [27, 184, 0, 107, 133, 184, 0, 88, 154, 0, 6, 16, 254, 172, 42, 28, 27, 182, 0, 111, 54, 4, 42, 27]
abbrev dktX8_set_1 : List UInt8 := dkwX8_set_1 ++ dktX8_set_2
def dkwX8_set_0 : List UInt8 := [27, 133, 9, 20, 0, 101, 184, 0, 88, 153, 0, 26, 42, 27, 28, 182, 0, 103, 153, 0, 17, 29, 133, 9]
abbrev dktX8_set_0 : List UInt8 := dkwX8_set_0 ++ dktX8_set_1
theorem dksX8_set_0 : cX8_set.data.toList.drop 0 = dktX8_set_0 := by decide +kernel
theorem dksX8_set_1 : cX8_set.data.toList.drop 24 = dktX8_set_1 := dk_seg dksX8_set_0 24 rfl rfl
theorem dksX8_set_2 : cX8_set.data.toList.drop 48 = dktX8_set_2 := dk_seg dksX8_set_1 24 rfl rfl
theorem dX8_set_0 : decode cX8_set 0 = .ok (.iload_n 1, 1) := dk_27 (dk_at dksX8_set_0 0 rfl rfl)
theorem dX8_set_1 : decode cX8_set 1 = .ok (.i2l, 1) := dk_133 (dk_at dksX8_set_0 1 rfl rfl)
theorem dX8_set_2 : decode cX8_set 2 = .ok (.lconst 0, 1) := dk_9 (dk_at dksX8_set_0 2 rfl rfl)
theorem dX8_set_3 : decode cX8_set 3 = .ok (.ldc2_w 101, 3) := dk_20 0 101 (dk_at dksX8_set_0 3 rfl rfl)
theorem dX8_set_6 : decode cX8_set 6 = .ok (.invokestatic 88, 3) := dk_184 0 88 (dk_at dksX8_set_0 6 rfl rfl)
theorem dX8_set_9 : decode cX8_set 9 = .ok (.ifCond .eq 26, 3) := dk_153 0 26 (dk_at dksX8_set_0 9 rfl rfl)
theorem dX8_set_12 : decode cX8_set 12 = .ok (.aload_n 0, 1) := dk_42 (dk_at dksX8_set_0 12 rfl rfl)
theorem dX8_set_13 : decode cX8_set 13 = .ok (.iload_n 1, 1) := dk_27 (dk_at dksX8_set_0 13 rfl rfl)
theorem dX8_set_14 : decode cX8_set 14 = .ok (.iload_n 2, 1) := dk_28 (dk_at dksX8_set_0 14 rfl rfl)
theorem dX8_set_15 : decode cX8_set 15 = .ok (.invokevirtual 103, 3) := dk_182 0 103 (dk_at dksX8_set_0 15 rfl rfl)
theorem dX8_set_18 : decode cX8_set 18 = .ok (.ifCond .eq 17, 3) := dk_153 0 17 (dk_at dksX8_set_0 18 rfl rfl)
theorem dX8_set_21 : decode cX8_set 21 = .ok (.iload_n 3, 1) := dk_29 (dk_at dksX8_set_0 21 rfl rfl)
theorem dX8_set_22 : decode cX8_set 22 = .ok (.i2l, 1) := dk_133 (dk_at dksX8_set_0 22 rfl rfl)
theorem dX8_set_23 : decode cX8_set 23 = .ok (.lconst 0, 1) := dk_9 (dk_at dksX8_set_0 23 rfl rfl)
theorem dX8_set_24 : decode cX8_set 24 = .ok (.iload_n 1, 1) := dk_27 (dk_at dksX8_set_1 0 rfl rfl)
theorem dX8_set_25 : decode cX8_set 25 = .ok (.invokestatic 107, 3) := dk_184 0 107 (dk_at dksX8_set_1 1 rfl rfl)
theorem dX8_set_28 : decode cX8_set 28 = .ok (.i2l, 1) := dk_133 (dk_at dksX8_set_1 4 rfl rfl)
theorem dX8_set_29 : decode cX8_set 29 = .ok (.invokestatic 88, 3) := dk_184 0 88 (dk_at dksX8_set_1 5 rfl rfl)
theorem dX8_set_32 : decode cX8_set 32 = .ok (.ifCond .ne 6, 3) := dk_154 0 6 (dk_at dksX8_set_1 8 rfl rfl)
theorem dX8_set_35 : decode cX8_set 35 = .ok (.bipush (-2), 2) := dk_16 254 (dk_at dksX8_set_1 11 rfl rfl)
theorem dX8_set_37 : decode cX8_set 37 = .ok (.ireturn, 1) := dk_172 (dk_at dksX8_set_1 13 rfl rfl)
theorem dX8_set_38 : decode cX8_set 38 = .ok (.aload_n 0, 1) := dk_42 (dk_at dksX8_set_1 14 rfl rfl)
theorem dX8_set_39 : decode cX8_set 39 = .ok (.iload_n 2, 1) := dk_28 (dk_at dksX8_set_1 15 rfl rfl)
theorem dX8_set_40 : decode cX8_set 40 = .ok (.iload_n 1, 1) := dk_27 (dk_at dksX8_set_1 16 rfl rfl)
theorem dX8_set_41 : decode cX8_set 41 = .ok (.invokevirtual 111, 3) := dk_182 0 111 (dk_at dksX8_set_1 17 rfl rfl)
theorem dX8_set_44 : decode cX8_set 44 = .ok (.istore 4, 2) := dk_54 4 (dk_at dksX8_set_1 20 rfl rfl)
theorem dX8_set_46 : decode cX8_set 46 = .ok (.aload_n 0, 1) := dk_42 (dk_at dksX8_set_1 22 rfl rfl)
theorem dX8_set_47 : decode cX8_set 47 = .ok (.iload_n 1, 1) := dk_27 (dk_at dksX8_set_1 23 rfl rfl)
theorem dX8_set_48 : decode cX8_set 48 = .ok (.iload_n 2, 1) := dk_28 (dk_at dksX8_set_2 0 rfl rfl)
theorem dX8_set_49 : decode cX8_set 49 = .ok (.iload_n 3, 1) := dk_29 (dk_at dksX8_set_2 1 rfl rfl)
theorem dX8_set_50 : decode cX8_set 50 = .ok (.invokevirtual 115, 3) := dk_182 0 115 (dk_at dksX8_set_2 2 rfl rfl)
theorem dX8_set_53 : decode cX8_set 53 = .ok (.iload 4, 2) := dk_21 4 (dk_at dksX8_set_2 5 rfl rfl)
theorem dX8_set_55 : decode cX8_set 55 = .ok (.ireturn, 1) := dk_172 (dk_at dksX8_set_2 7 rfl rfl)
abbrev cX8_in : ByteArray := prog_16_method_2_code
def yX8_in : MethodName := ⟨RX8, "in", "(JJJ)Z"⟩
def dkwX8_in_0 : List UInt8 := [30, 32, 148, 155, 0, 14, 30, 22, 4, 148, 157, 0, 7, 4, 167, 0, 4, 3, 172]
abbrev dktX8_in_0 : List UInt8 := dkwX8_in_0 ++ []
theorem dksX8_in_0 : cX8_in.data.toList.drop 0 = dktX8_in_0 := by decide +kernel
theorem dX8_in_0 : decode cX8_in 0 = .ok (.lload_n 0, 1) := dk_30 (dk_at dksX8_in_0 0 rfl rfl)
theorem dX8_in_1 : decode cX8_in 1 = .ok (.lload_n 2, 1) := dk_32 (dk_at dksX8_in_0 1 rfl rfl)
theorem dX8_in_2 : decode cX8_in 2 = .ok (.lcmp, 1) := dk_148 (dk_at dksX8_in_0 2 rfl rfl)
theorem dX8_in_3 : decode cX8_in 3 = .ok (.ifCond .lt 14, 3) := dk_155 0 14 (dk_at dksX8_in_0 3 rfl rfl)
theorem dX8_in_6 : decode cX8_in 6 = .ok (.lload_n 0, 1) := dk_30 (dk_at dksX8_in_0 6 rfl rfl)
theorem dX8_in_7 : decode cX8_in 7 = .ok (.lload 4, 2) := dk_22 4 (dk_at dksX8_in_0 7 rfl rfl)
theorem dX8_in_9 : decode cX8_in 9 = .ok (.lcmp, 1) := dk_148 (dk_at dksX8_in_0 9 rfl rfl)
theorem dX8_in_10 : decode cX8_in 10 = .ok (.ifCond .gt 7, 3) := dk_157 0 7 (dk_at dksX8_in_0 10 rfl rfl)
theorem dX8_in_13 : decode cX8_in 13 = .ok (.iconst 1, 1) := dk_4 (dk_at dksX8_in_0 13 rfl rfl)
theorem dX8_in_14 : decode cX8_in 14 = .ok (.goto 4, 3) := dk_167 0 4 (dk_at dksX8_in_0 14 rfl rfl)
theorem dX8_in_17 : decode cX8_in 17 = .ok (.iconst 0, 1) := dk_3 (dk_at dksX8_in_0 17 rfl rfl)
theorem dX8_in_18 : decode cX8_in 18 = .ok (.ireturn, 1) := dk_172 (dk_at dksX8_in_0 18 rfl rfl)
abbrev cX8_isOf : ByteArray := prog_16_method_8_code
def yX8_isOf : MethodName := ⟨RX8, "isOf", "(II)Z"⟩
def dkwX8_isOf_1 : List UInt8 := [167, 0, 11, 42, 28, 182, 0, 98, 153, 0, 7, 4, 167, 0, 4, 3, 172]
abbrev dktX8_isOf_1 : List UInt8 := dkwX8_isOf_1 ++ []
def dkwX8_isOf_0 : List UInt8 := [27, 153, 0, 32, 27, 4, 159, 0, 9, 27, 16, 9, 164, 0, 13, 28, 184, 0, 94, 153, 0, 18]
abbrev dktX8_isOf_0 : List UInt8 := dkwX8_isOf_0 ++ dktX8_isOf_1
theorem dksX8_isOf_0 : cX8_isOf.data.toList.drop 0 = dktX8_isOf_0 := by decide +kernel
theorem dksX8_isOf_1 : cX8_isOf.data.toList.drop 22 = dktX8_isOf_1 := dk_seg dksX8_isOf_0 22 rfl rfl
theorem dX8_isOf_0 : decode cX8_isOf 0 = .ok (.iload_n 1, 1) := dk_27 (dk_at dksX8_isOf_0 0 rfl rfl)
theorem dX8_isOf_1 : decode cX8_isOf 1 = .ok (.ifCond .eq 32, 3) := dk_153 0 32 (dk_at dksX8_isOf_0 1 rfl rfl)
theorem dX8_isOf_4 : decode cX8_isOf 4 = .ok (.iload_n 1, 1) := dk_27 (dk_at dksX8_isOf_0 4 rfl rfl)
theorem dX8_isOf_5 : decode cX8_isOf 5 = .ok (.iconst 1, 1) := dk_4 (dk_at dksX8_isOf_0 5 rfl rfl)
theorem dX8_isOf_6 : decode cX8_isOf 6 = .ok (.if_icmp .eq 9, 3) := dk_159 0 9 (dk_at dksX8_isOf_0 6 rfl rfl)
theorem dX8_isOf_9 : decode cX8_isOf 9 = .ok (.iload_n 1, 1) := dk_27 (dk_at dksX8_isOf_0 9 rfl rfl)
theorem dX8_isOf_10 : decode cX8_isOf 10 = .ok (.bipush 9, 2) := dk_16 9 (dk_at dksX8_isOf_0 10 rfl rfl)
theorem dX8_isOf_12 : decode cX8_isOf 12 = .ok (.if_icmp .le 13, 3) := dk_164 0 13 (dk_at dksX8_isOf_0 12 rfl rfl)
theorem dX8_isOf_15 : decode cX8_isOf 15 = .ok (.iload_n 2, 1) := dk_28 (dk_at dksX8_isOf_0 15 rfl rfl)
theorem dX8_isOf_16 : decode cX8_isOf 16 = .ok (.invokestatic 94, 3) := dk_184 0 94 (dk_at dksX8_isOf_0 16 rfl rfl)
theorem dX8_isOf_19 : decode cX8_isOf 19 = .ok (.ifCond .eq 18, 3) := dk_153 0 18 (dk_at dksX8_isOf_0 19 rfl rfl)
theorem dX8_isOf_22 : decode cX8_isOf 22 = .ok (.goto 11, 3) := dk_167 0 11 (dk_at dksX8_isOf_1 0 rfl rfl)
theorem dX8_isOf_25 : decode cX8_isOf 25 = .ok (.aload_n 0, 1) := dk_42 (dk_at dksX8_isOf_1 3 rfl rfl)
theorem dX8_isOf_26 : decode cX8_isOf 26 = .ok (.iload_n 2, 1) := dk_28 (dk_at dksX8_isOf_1 4 rfl rfl)
theorem dX8_isOf_27 : decode cX8_isOf 27 = .ok (.invokevirtual 98, 3) := dk_182 0 98 (dk_at dksX8_isOf_1 5 rfl rfl)
theorem dX8_isOf_30 : decode cX8_isOf 30 = .ok (.ifCond .eq 7, 3) := dk_153 0 7 (dk_at dksX8_isOf_1 8 rfl rfl)
theorem dX8_isOf_33 : decode cX8_isOf 33 = .ok (.iconst 1, 1) := dk_4 (dk_at dksX8_isOf_1 11 rfl rfl)
theorem dX8_isOf_34 : decode cX8_isOf 34 = .ok (.goto 4, 3) := dk_167 0 4 (dk_at dksX8_isOf_1 12 rfl rfl)
theorem dX8_isOf_37 : decode cX8_isOf 37 = .ok (.iconst 0, 1) := dk_3 (dk_at dksX8_isOf_1 15 rfl rfl)
theorem dX8_isOf_38 : decode cX8_isOf 38 = .ok (.ireturn, 1) := dk_172 (dk_at dksX8_isOf_1 16 rfl rfl)
abbrev cX8_isOpening : ByteArray := prog_16_method_7_code
def yX8_isOpening : MethodName := ⟨RX8, "isOpening", "(I)Z"⟩
def dkwX8_isOpening_0 : List UInt8 := [26, 133, 9, 20, 0, 92, 184, 0, 88, 172]
abbrev dktX8_isOpening_0 : List UInt8 := dkwX8_isOpening_0 ++ []
theorem dksX8_isOpening_0 : cX8_isOpening.data.toList.drop 0 = dktX8_isOpening_0 := by decide +kernel
theorem dX8_isOpening_0 : decode cX8_isOpening 0 = .ok (.iload_n 0, 1) := dk_26 (dk_at dksX8_isOpening_0 0 rfl rfl)
theorem dX8_isOpening_1 : decode cX8_isOpening 1 = .ok (.i2l, 1) := dk_133 (dk_at dksX8_isOpening_0 1 rfl rfl)
theorem dX8_isOpening_2 : decode cX8_isOpening 2 = .ok (.lconst 0, 1) := dk_9 (dk_at dksX8_isOpening_0 2 rfl rfl)
theorem dX8_isOpening_3 : decode cX8_isOpening 3 = .ok (.ldc2_w 92, 3) := dk_20 0 92 (dk_at dksX8_isOpening_0 3 rfl rfl)
theorem dX8_isOpening_6 : decode cX8_isOpening 6 = .ok (.invokestatic 88, 3) := dk_184 0 88 (dk_at dksX8_isOpening_0 6 rfl rfl)
theorem dX8_isOpening_9 : decode cX8_isOpening 9 = .ok (.ireturn, 1) := dk_172 (dk_at dksX8_isOpening_0 9 rfl rfl)
abbrev cX8_isPane : ByteArray := prog_16_method_6_code
def yX8_isPane : MethodName := ⟨RX8, "isPane", "(I)Z"⟩
def dkwX8_isPane_0 : List UInt8 := [27, 133, 9, 42, 180, 0, 85, 4, 100, 133, 184, 0, 88, 172]
abbrev dktX8_isPane_0 : List UInt8 := dkwX8_isPane_0 ++ []
theorem dksX8_isPane_0 : cX8_isPane.data.toList.drop 0 = dktX8_isPane_0 := by decide +kernel
theorem dX8_isPane_0 : decode cX8_isPane 0 = .ok (.iload_n 1, 1) := dk_27 (dk_at dksX8_isPane_0 0 rfl rfl)
theorem dX8_isPane_1 : decode cX8_isPane 1 = .ok (.i2l, 1) := dk_133 (dk_at dksX8_isPane_0 1 rfl rfl)
theorem dX8_isPane_2 : decode cX8_isPane 2 = .ok (.lconst 0, 1) := dk_9 (dk_at dksX8_isPane_0 2 rfl rfl)
theorem dX8_isPane_3 : decode cX8_isPane 3 = .ok (.aload_n 0, 1) := dk_42 (dk_at dksX8_isPane_0 3 rfl rfl)
theorem dX8_isPane_4 : decode cX8_isPane 4 = .ok (.getfield 85, 3) := dk_180 0 85 (dk_at dksX8_isPane_0 4 rfl rfl)
theorem dX8_isPane_7 : decode cX8_isPane 7 = .ok (.iconst 1, 1) := dk_4 (dk_at dksX8_isPane_0 7 rfl rfl)
theorem dX8_isPane_8 : decode cX8_isPane 8 = .ok (.isub, 1) := dk_100 (dk_at dksX8_isPane_0 8 rfl rfl)
theorem dX8_isPane_9 : decode cX8_isPane 9 = .ok (.i2l, 1) := dk_133 (dk_at dksX8_isPane_0 9 rfl rfl)
theorem dX8_isPane_10 : decode cX8_isPane 10 = .ok (.invokestatic 88, 3) := dk_184 0 88 (dk_at dksX8_isPane_0 10 rfl rfl)
theorem dX8_isPane_13 : decode cX8_isPane 13 = .ok (.ireturn, 1) := dk_172 (dk_at dksX8_isPane_0 13 rfl rfl)
abbrev cX8_mostOf : ByteArray := prog_16_method_9_code
def yX8_mostOf : MethodName := ⟨RX8, "mostOf", "(I)I"⟩
def dkwX8_mostOf_1 : List UInt8 := [160, 0, 9, 17, 1, 108, 167, 0, 5, 16, 9, 172]
abbrev dktX8_mostOf_1 : List UInt8 := dkwX8_mostOf_1 ++ []
def dkwX8_mostOf_0 : List UInt8 := [26, 154, 0, 9, 17, 39, 15, 167, 0, 27, 26, 4, 160, 0, 9, 17, 3, 231, 167, 0, 16, 26, 6]
abbrev dktX8_mostOf_0 : List UInt8 := dkwX8_mostOf_0 ++ dktX8_mostOf_1
theorem dksX8_mostOf_0 : cX8_mostOf.data.toList.drop 0 = dktX8_mostOf_0 := by decide +kernel
theorem dksX8_mostOf_1 : cX8_mostOf.data.toList.drop 23 = dktX8_mostOf_1 := dk_seg dksX8_mostOf_0 23 rfl rfl
theorem dX8_mostOf_0 : decode cX8_mostOf 0 = .ok (.iload_n 0, 1) := dk_26 (dk_at dksX8_mostOf_0 0 rfl rfl)
theorem dX8_mostOf_1 : decode cX8_mostOf 1 = .ok (.ifCond .ne 9, 3) := dk_154 0 9 (dk_at dksX8_mostOf_0 1 rfl rfl)
theorem dX8_mostOf_4 : decode cX8_mostOf 4 = .ok (.sipush 9999, 3) := dk_17 39 15 (dk_at dksX8_mostOf_0 4 rfl rfl)
theorem dX8_mostOf_7 : decode cX8_mostOf 7 = .ok (.goto 27, 3) := dk_167 0 27 (dk_at dksX8_mostOf_0 7 rfl rfl)
theorem dX8_mostOf_10 : decode cX8_mostOf 10 = .ok (.iload_n 0, 1) := dk_26 (dk_at dksX8_mostOf_0 10 rfl rfl)
theorem dX8_mostOf_11 : decode cX8_mostOf 11 = .ok (.iconst 1, 1) := dk_4 (dk_at dksX8_mostOf_0 11 rfl rfl)
theorem dX8_mostOf_12 : decode cX8_mostOf 12 = .ok (.if_icmp .ne 9, 3) := dk_160 0 9 (dk_at dksX8_mostOf_0 12 rfl rfl)
theorem dX8_mostOf_15 : decode cX8_mostOf 15 = .ok (.sipush 999, 3) := dk_17 3 231 (dk_at dksX8_mostOf_0 15 rfl rfl)
theorem dX8_mostOf_18 : decode cX8_mostOf 18 = .ok (.goto 16, 3) := dk_167 0 16 (dk_at dksX8_mostOf_0 18 rfl rfl)
theorem dX8_mostOf_21 : decode cX8_mostOf 21 = .ok (.iload_n 0, 1) := dk_26 (dk_at dksX8_mostOf_0 21 rfl rfl)
theorem dX8_mostOf_22 : decode cX8_mostOf 22 = .ok (.iconst 3, 1) := dk_6 (dk_at dksX8_mostOf_0 22 rfl rfl)
theorem dX8_mostOf_23 : decode cX8_mostOf 23 = .ok (.if_icmp .ne 9, 3) := dk_160 0 9 (dk_at dksX8_mostOf_1 0 rfl rfl)
theorem dX8_mostOf_26 : decode cX8_mostOf 26 = .ok (.sipush 364, 3) := dk_17 1 108 (dk_at dksX8_mostOf_1 3 rfl rfl)
theorem dX8_mostOf_29 : decode cX8_mostOf 29 = .ok (.goto 5, 3) := dk_167 0 5 (dk_at dksX8_mostOf_1 6 rfl rfl)
theorem dX8_mostOf_32 : decode cX8_mostOf 32 = .ok (.bipush 9, 2) := dk_16 9 (dk_at dksX8_mostOf_1 9 rfl rfl)
theorem dX8_mostOf_34 : decode cX8_mostOf 34 = .ok (.ireturn, 1) := dk_172 (dk_at dksX8_mostOf_1 11 rfl rfl)
abbrev cX8_told : ByteArray := prog_16_method_17_code
def yX8_told : MethodName := ⟨RX8, "told", "(II)I"⟩
def dkwX8_told_6 : List UInt8 := [16, 8, 160, 0, 11, 42, 27, 182, 0, 145, 167, 0, 8, 42, 27, 182, 0, 148, 172]
abbrev dktX8_told_6 : List UInt8 := dkwX8_told_6 ++ []
def dkwX8_told_5 : List UInt8 := [182, 0, 142, 167, 0, 39, 28, 16, 7, 160, 0, 14, 42, 180, 0, 128, 27, 122, 4, 126, 167, 0, 22, 28]
abbrev dktX8_told_5 : List UInt8 := dkwX8_told_5 ++ dktX8_told_6
def dkwX8_told_4 : List UInt8 := [180, 0, 29, 27, 46, 167, 0, 8, 42, 27, 182, 0, 139, 172, 28, 16, 6, 160, 0, 11, 42, 27]
abbrev dktX8_told_4 : List UInt8 := dkwX8_told_4 ++ dktX8_told_5
def dkwX8_told_3 : List UInt8 := [46, 167, 0, 9, 42, 180, 0, 32, 27, 46, 172, 28, 16, 9, 164, 0, 24, 28, 16, 10, 160, 0, 12, 42]
abbrev dktX8_told_3 : List UInt8 := dkwX8_told_3 ++ dktX8_told_4
def dkwX8_told_2 : List UInt8 := [180, 0, 26, 27, 46, 167, 0, 29, 28, 8, 162, 0, 18, 42, 180, 0, 35, 6, 27, 104, 28, 96, 5, 100]
abbrev dktX8_told_2 : List UInt8 := dkwX8_told_2 ++ dktX8_told_3
def dkwX8_told_1 : List UInt8 := [28, 16, 6, 162, 0, 55, 28, 154, 0, 10, 42, 180, 0, 23, 167, 0, 43, 28, 4, 160, 0, 12, 42]
abbrev dktX8_told_1 : List UInt8 := dkwX8_told_1 ++ dktX8_told_2
def dkwX8_told_0 : List UInt8 := [28, 133, 9, 20, 0, 137, 184, 0, 88, 153, 0, 12, 42, 28, 27, 182, 0, 103, 154, 0, 6, 16, 254, 172]
abbrev dktX8_told_0 : List UInt8 := dkwX8_told_0 ++ dktX8_told_1
theorem dksX8_told_0 : cX8_told.data.toList.drop 0 = dktX8_told_0 := by decide +kernel
theorem dksX8_told_1 : cX8_told.data.toList.drop 24 = dktX8_told_1 := dk_seg dksX8_told_0 24 rfl rfl
theorem dksX8_told_2 : cX8_told.data.toList.drop 47 = dktX8_told_2 := dk_seg dksX8_told_1 23 rfl rfl
theorem dksX8_told_3 : cX8_told.data.toList.drop 71 = dktX8_told_3 := dk_seg dksX8_told_2 24 rfl rfl
theorem dksX8_told_4 : cX8_told.data.toList.drop 95 = dktX8_told_4 := dk_seg dksX8_told_3 24 rfl rfl
theorem dksX8_told_5 : cX8_told.data.toList.drop 117 = dktX8_told_5 := dk_seg dksX8_told_4 22 rfl rfl
theorem dksX8_told_6 : cX8_told.data.toList.drop 141 = dktX8_told_6 := dk_seg dksX8_told_5 24 rfl rfl
theorem dX8_told_0 : decode cX8_told 0 = .ok (.iload_n 2, 1) := dk_28 (dk_at dksX8_told_0 0 rfl rfl)
theorem dX8_told_1 : decode cX8_told 1 = .ok (.i2l, 1) := dk_133 (dk_at dksX8_told_0 1 rfl rfl)
theorem dX8_told_2 : decode cX8_told 2 = .ok (.lconst 0, 1) := dk_9 (dk_at dksX8_told_0 2 rfl rfl)
theorem dX8_told_3 : decode cX8_told 3 = .ok (.ldc2_w 137, 3) := dk_20 0 137 (dk_at dksX8_told_0 3 rfl rfl)
theorem dX8_told_6 : decode cX8_told 6 = .ok (.invokestatic 88, 3) := dk_184 0 88 (dk_at dksX8_told_0 6 rfl rfl)
theorem dX8_told_9 : decode cX8_told 9 = .ok (.ifCond .eq 12, 3) := dk_153 0 12 (dk_at dksX8_told_0 9 rfl rfl)
theorem dX8_told_12 : decode cX8_told 12 = .ok (.aload_n 0, 1) := dk_42 (dk_at dksX8_told_0 12 rfl rfl)
theorem dX8_told_13 : decode cX8_told 13 = .ok (.iload_n 2, 1) := dk_28 (dk_at dksX8_told_0 13 rfl rfl)
theorem dX8_told_14 : decode cX8_told 14 = .ok (.iload_n 1, 1) := dk_27 (dk_at dksX8_told_0 14 rfl rfl)
theorem dX8_told_15 : decode cX8_told 15 = .ok (.invokevirtual 103, 3) := dk_182 0 103 (dk_at dksX8_told_0 15 rfl rfl)
theorem dX8_told_18 : decode cX8_told 18 = .ok (.ifCond .ne 6, 3) := dk_154 0 6 (dk_at dksX8_told_0 18 rfl rfl)
theorem dX8_told_21 : decode cX8_told 21 = .ok (.bipush (-2), 2) := dk_16 254 (dk_at dksX8_told_0 21 rfl rfl)
theorem dX8_told_23 : decode cX8_told 23 = .ok (.ireturn, 1) := dk_172 (dk_at dksX8_told_0 23 rfl rfl)
theorem dX8_told_24 : decode cX8_told 24 = .ok (.iload_n 2, 1) := dk_28 (dk_at dksX8_told_1 0 rfl rfl)
theorem dX8_told_25 : decode cX8_told 25 = .ok (.bipush 6, 2) := dk_16 6 (dk_at dksX8_told_1 1 rfl rfl)
theorem dX8_told_27 : decode cX8_told 27 = .ok (.if_icmp .ge 55, 3) := dk_162 0 55 (dk_at dksX8_told_1 3 rfl rfl)
theorem dX8_told_30 : decode cX8_told 30 = .ok (.iload_n 2, 1) := dk_28 (dk_at dksX8_told_1 6 rfl rfl)
theorem dX8_told_31 : decode cX8_told 31 = .ok (.ifCond .ne 10, 3) := dk_154 0 10 (dk_at dksX8_told_1 7 rfl rfl)
theorem dX8_told_34 : decode cX8_told 34 = .ok (.aload_n 0, 1) := dk_42 (dk_at dksX8_told_1 10 rfl rfl)
theorem dX8_told_35 : decode cX8_told 35 = .ok (.getfield 23, 3) := dk_180 0 23 (dk_at dksX8_told_1 11 rfl rfl)
theorem dX8_told_38 : decode cX8_told 38 = .ok (.goto 43, 3) := dk_167 0 43 (dk_at dksX8_told_1 14 rfl rfl)
theorem dX8_told_41 : decode cX8_told 41 = .ok (.iload_n 2, 1) := dk_28 (dk_at dksX8_told_1 17 rfl rfl)
theorem dX8_told_42 : decode cX8_told 42 = .ok (.iconst 1, 1) := dk_4 (dk_at dksX8_told_1 18 rfl rfl)
theorem dX8_told_43 : decode cX8_told 43 = .ok (.if_icmp .ne 12, 3) := dk_160 0 12 (dk_at dksX8_told_1 19 rfl rfl)
theorem dX8_told_46 : decode cX8_told 46 = .ok (.aload_n 0, 1) := dk_42 (dk_at dksX8_told_1 22 rfl rfl)
theorem dX8_told_47 : decode cX8_told 47 = .ok (.getfield 26, 3) := dk_180 0 26 (dk_at dksX8_told_2 0 rfl rfl)
theorem dX8_told_50 : decode cX8_told 50 = .ok (.iload_n 1, 1) := dk_27 (dk_at dksX8_told_2 3 rfl rfl)
theorem dX8_told_51 : decode cX8_told 51 = .ok (.iaload, 1) := dk_46 (dk_at dksX8_told_2 4 rfl rfl)
theorem dX8_told_52 : decode cX8_told 52 = .ok (.goto 29, 3) := dk_167 0 29 (dk_at dksX8_told_2 5 rfl rfl)
theorem dX8_told_55 : decode cX8_told 55 = .ok (.iload_n 2, 1) := dk_28 (dk_at dksX8_told_2 8 rfl rfl)
theorem dX8_told_56 : decode cX8_told 56 = .ok (.iconst 5, 1) := dk_8 (dk_at dksX8_told_2 9 rfl rfl)
theorem dX8_told_57 : decode cX8_told 57 = .ok (.if_icmp .ge 18, 3) := dk_162 0 18 (dk_at dksX8_told_2 10 rfl rfl)
theorem dX8_told_60 : decode cX8_told 60 = .ok (.aload_n 0, 1) := dk_42 (dk_at dksX8_told_2 13 rfl rfl)
theorem dX8_told_61 : decode cX8_told 61 = .ok (.getfield 35, 3) := dk_180 0 35 (dk_at dksX8_told_2 14 rfl rfl)
theorem dX8_told_64 : decode cX8_told 64 = .ok (.iconst 3, 1) := dk_6 (dk_at dksX8_told_2 17 rfl rfl)
theorem dX8_told_65 : decode cX8_told 65 = .ok (.iload_n 1, 1) := dk_27 (dk_at dksX8_told_2 18 rfl rfl)
theorem dX8_told_66 : decode cX8_told 66 = .ok (.imul, 1) := dk_104 (dk_at dksX8_told_2 19 rfl rfl)
theorem dX8_told_67 : decode cX8_told 67 = .ok (.iload_n 2, 1) := dk_28 (dk_at dksX8_told_2 20 rfl rfl)
theorem dX8_told_68 : decode cX8_told 68 = .ok (.iadd, 1) := dk_96 (dk_at dksX8_told_2 21 rfl rfl)
theorem dX8_told_69 : decode cX8_told 69 = .ok (.iconst 2, 1) := dk_5 (dk_at dksX8_told_2 22 rfl rfl)
theorem dX8_told_70 : decode cX8_told 70 = .ok (.isub, 1) := dk_100 (dk_at dksX8_told_2 23 rfl rfl)
theorem dX8_told_71 : decode cX8_told 71 = .ok (.iaload, 1) := dk_46 (dk_at dksX8_told_3 0 rfl rfl)
theorem dX8_told_72 : decode cX8_told 72 = .ok (.goto 9, 3) := dk_167 0 9 (dk_at dksX8_told_3 1 rfl rfl)
theorem dX8_told_75 : decode cX8_told 75 = .ok (.aload_n 0, 1) := dk_42 (dk_at dksX8_told_3 4 rfl rfl)
theorem dX8_told_76 : decode cX8_told 76 = .ok (.getfield 32, 3) := dk_180 0 32 (dk_at dksX8_told_3 5 rfl rfl)
theorem dX8_told_79 : decode cX8_told 79 = .ok (.iload_n 1, 1) := dk_27 (dk_at dksX8_told_3 8 rfl rfl)
theorem dX8_told_80 : decode cX8_told 80 = .ok (.iaload, 1) := dk_46 (dk_at dksX8_told_3 9 rfl rfl)
theorem dX8_told_81 : decode cX8_told 81 = .ok (.ireturn, 1) := dk_172 (dk_at dksX8_told_3 10 rfl rfl)
theorem dX8_told_82 : decode cX8_told 82 = .ok (.iload_n 2, 1) := dk_28 (dk_at dksX8_told_3 11 rfl rfl)
theorem dX8_told_83 : decode cX8_told 83 = .ok (.bipush 9, 2) := dk_16 9 (dk_at dksX8_told_3 12 rfl rfl)
theorem dX8_told_85 : decode cX8_told 85 = .ok (.if_icmp .le 24, 3) := dk_164 0 24 (dk_at dksX8_told_3 14 rfl rfl)
theorem dX8_told_88 : decode cX8_told 88 = .ok (.iload_n 2, 1) := dk_28 (dk_at dksX8_told_3 17 rfl rfl)
theorem dX8_told_89 : decode cX8_told 89 = .ok (.bipush 10, 2) := dk_16 10 (dk_at dksX8_told_3 18 rfl rfl)
theorem dX8_told_91 : decode cX8_told 91 = .ok (.if_icmp .ne 12, 3) := dk_160 0 12 (dk_at dksX8_told_3 20 rfl rfl)
theorem dX8_told_94 : decode cX8_told 94 = .ok (.aload_n 0, 1) := dk_42 (dk_at dksX8_told_3 23 rfl rfl)
theorem dX8_told_95 : decode cX8_told 95 = .ok (.getfield 29, 3) := dk_180 0 29 (dk_at dksX8_told_4 0 rfl rfl)
theorem dX8_told_98 : decode cX8_told 98 = .ok (.iload_n 1, 1) := dk_27 (dk_at dksX8_told_4 3 rfl rfl)
theorem dX8_told_99 : decode cX8_told 99 = .ok (.iaload, 1) := dk_46 (dk_at dksX8_told_4 4 rfl rfl)
theorem dX8_told_100 : decode cX8_told 100 = .ok (.goto 8, 3) := dk_167 0 8 (dk_at dksX8_told_4 5 rfl rfl)
theorem dX8_told_103 : decode cX8_told 103 = .ok (.aload_n 0, 1) := dk_42 (dk_at dksX8_told_4 8 rfl rfl)
theorem dX8_told_104 : decode cX8_told 104 = .ok (.iload_n 1, 1) := dk_27 (dk_at dksX8_told_4 9 rfl rfl)
theorem dX8_told_105 : decode cX8_told 105 = .ok (.invokevirtual 139, 3) := dk_182 0 139 (dk_at dksX8_told_4 10 rfl rfl)
theorem dX8_told_108 : decode cX8_told 108 = .ok (.ireturn, 1) := dk_172 (dk_at dksX8_told_4 13 rfl rfl)
theorem dX8_told_109 : decode cX8_told 109 = .ok (.iload_n 2, 1) := dk_28 (dk_at dksX8_told_4 14 rfl rfl)
theorem dX8_told_110 : decode cX8_told 110 = .ok (.bipush 6, 2) := dk_16 6 (dk_at dksX8_told_4 15 rfl rfl)
theorem dX8_told_112 : decode cX8_told 112 = .ok (.if_icmp .ne 11, 3) := dk_160 0 11 (dk_at dksX8_told_4 17 rfl rfl)
theorem dX8_told_115 : decode cX8_told 115 = .ok (.aload_n 0, 1) := dk_42 (dk_at dksX8_told_4 20 rfl rfl)
theorem dX8_told_116 : decode cX8_told 116 = .ok (.iload_n 1, 1) := dk_27 (dk_at dksX8_told_4 21 rfl rfl)
theorem dX8_told_117 : decode cX8_told 117 = .ok (.invokevirtual 142, 3) := dk_182 0 142 (dk_at dksX8_told_5 0 rfl rfl)
theorem dX8_told_120 : decode cX8_told 120 = .ok (.goto 39, 3) := dk_167 0 39 (dk_at dksX8_told_5 3 rfl rfl)
theorem dX8_told_123 : decode cX8_told 123 = .ok (.iload_n 2, 1) := dk_28 (dk_at dksX8_told_5 6 rfl rfl)
theorem dX8_told_124 : decode cX8_told 124 = .ok (.bipush 7, 2) := dk_16 7 (dk_at dksX8_told_5 7 rfl rfl)
theorem dX8_told_126 : decode cX8_told 126 = .ok (.if_icmp .ne 14, 3) := dk_160 0 14 (dk_at dksX8_told_5 9 rfl rfl)
theorem dX8_told_129 : decode cX8_told 129 = .ok (.aload_n 0, 1) := dk_42 (dk_at dksX8_told_5 12 rfl rfl)
theorem dX8_told_130 : decode cX8_told 130 = .ok (.getfield 128, 3) := dk_180 0 128 (dk_at dksX8_told_5 13 rfl rfl)
theorem dX8_told_133 : decode cX8_told 133 = .ok (.iload_n 1, 1) := dk_27 (dk_at dksX8_told_5 16 rfl rfl)
theorem dX8_told_134 : decode cX8_told 134 = .ok (.ishr, 1) := dk_122 (dk_at dksX8_told_5 17 rfl rfl)
theorem dX8_told_135 : decode cX8_told 135 = .ok (.iconst 1, 1) := dk_4 (dk_at dksX8_told_5 18 rfl rfl)
theorem dX8_told_136 : decode cX8_told 136 = .ok (.iand, 1) := dk_126 (dk_at dksX8_told_5 19 rfl rfl)
theorem dX8_told_137 : decode cX8_told 137 = .ok (.goto 22, 3) := dk_167 0 22 (dk_at dksX8_told_5 20 rfl rfl)
theorem dX8_told_140 : decode cX8_told 140 = .ok (.iload_n 2, 1) := dk_28 (dk_at dksX8_told_5 23 rfl rfl)
theorem dX8_told_141 : decode cX8_told 141 = .ok (.bipush 8, 2) := dk_16 8 (dk_at dksX8_told_6 0 rfl rfl)
theorem dX8_told_143 : decode cX8_told 143 = .ok (.if_icmp .ne 11, 3) := dk_160 0 11 (dk_at dksX8_told_6 2 rfl rfl)
theorem dX8_told_146 : decode cX8_told 146 = .ok (.aload_n 0, 1) := dk_42 (dk_at dksX8_told_6 5 rfl rfl)
theorem dX8_told_147 : decode cX8_told 147 = .ok (.iload_n 1, 1) := dk_27 (dk_at dksX8_told_6 6 rfl rfl)
theorem dX8_told_148 : decode cX8_told 148 = .ok (.invokevirtual 145, 3) := dk_182 0 145 (dk_at dksX8_told_6 7 rfl rfl)
theorem dX8_told_151 : decode cX8_told 151 = .ok (.goto 8, 3) := dk_167 0 8 (dk_at dksX8_told_6 10 rfl rfl)
theorem dX8_told_154 : decode cX8_told 154 = .ok (.aload_n 0, 1) := dk_42 (dk_at dksX8_told_6 13 rfl rfl)
theorem dX8_told_155 : decode cX8_told 155 = .ok (.iload_n 1, 1) := dk_27 (dk_at dksX8_told_6 14 rfl rfl)
theorem dX8_told_156 : decode cX8_told 156 = .ok (.invokevirtual 148, 3) := dk_182 0 148 (dk_at dksX8_told_6 15 rfl rfl)
theorem dX8_told_159 : decode cX8_told 159 = .ok (.ireturn, 1) := dk_172 (dk_at dksX8_told_6 18 rfl rfl)
abbrev cX8_sumIn : ByteArray := prog_16_method_44_code
def yX8_sumIn : MethodName := ⟨RX8, "sumIn", "(I)I"⟩
def dkwX8_sumIn_1 : List UInt8 := [42, 28, 27, 182, 1, 26, 172]
abbrev dktX8_sumIn_1 : List UInt8 := dkwX8_sumIn_1 ++ []
def dkwX8_sumIn_0 : List UInt8 := [42, 180, 0, 29, 27, 46, 61, 28, 2, 159, 0, 11, 42, 28, 182, 0, 131, 153, 0, 7, 3, 167, 0, 9]
abbrev dktX8_sumIn_0 : List UInt8 := dkwX8_sumIn_0 ++ dktX8_sumIn_1
theorem dksX8_sumIn_0 : cX8_sumIn.data.toList.drop 0 = dktX8_sumIn_0 := by decide +kernel
theorem dksX8_sumIn_1 : cX8_sumIn.data.toList.drop 24 = dktX8_sumIn_1 := dk_seg dksX8_sumIn_0 24 rfl rfl
theorem dX8_sumIn_0 : decode cX8_sumIn 0 = .ok (.aload_n 0, 1) := dk_42 (dk_at dksX8_sumIn_0 0 rfl rfl)
theorem dX8_sumIn_1 : decode cX8_sumIn 1 = .ok (.getfield 29, 3) := dk_180 0 29 (dk_at dksX8_sumIn_0 1 rfl rfl)
theorem dX8_sumIn_4 : decode cX8_sumIn 4 = .ok (.iload_n 1, 1) := dk_27 (dk_at dksX8_sumIn_0 4 rfl rfl)
theorem dX8_sumIn_5 : decode cX8_sumIn 5 = .ok (.iaload, 1) := dk_46 (dk_at dksX8_sumIn_0 5 rfl rfl)
theorem dX8_sumIn_6 : decode cX8_sumIn 6 = .ok (.istore_n 2, 1) := dk_61 (dk_at dksX8_sumIn_0 6 rfl rfl)
theorem dX8_sumIn_7 : decode cX8_sumIn 7 = .ok (.iload_n 2, 1) := dk_28 (dk_at dksX8_sumIn_0 7 rfl rfl)
theorem dX8_sumIn_8 : decode cX8_sumIn 8 = .ok (.iconst (-1), 1) := dk_2 (dk_at dksX8_sumIn_0 8 rfl rfl)
theorem dX8_sumIn_9 : decode cX8_sumIn 9 = .ok (.if_icmp .eq 11, 3) := dk_159 0 11 (dk_at dksX8_sumIn_0 9 rfl rfl)
theorem dX8_sumIn_12 : decode cX8_sumIn 12 = .ok (.aload_n 0, 1) := dk_42 (dk_at dksX8_sumIn_0 12 rfl rfl)
theorem dX8_sumIn_13 : decode cX8_sumIn 13 = .ok (.iload_n 2, 1) := dk_28 (dk_at dksX8_sumIn_0 13 rfl rfl)
theorem dX8_sumIn_14 : decode cX8_sumIn 14 = .ok (.invokevirtual 131, 3) := dk_182 0 131 (dk_at dksX8_sumIn_0 14 rfl rfl)
theorem dX8_sumIn_17 : decode cX8_sumIn 17 = .ok (.ifCond .eq 7, 3) := dk_153 0 7 (dk_at dksX8_sumIn_0 17 rfl rfl)
theorem dX8_sumIn_20 : decode cX8_sumIn 20 = .ok (.iconst 0, 1) := dk_3 (dk_at dksX8_sumIn_0 20 rfl rfl)
theorem dX8_sumIn_21 : decode cX8_sumIn 21 = .ok (.goto 9, 3) := dk_167 0 9 (dk_at dksX8_sumIn_0 21 rfl rfl)
theorem dX8_sumIn_24 : decode cX8_sumIn 24 = .ok (.aload_n 0, 1) := dk_42 (dk_at dksX8_sumIn_1 0 rfl rfl)
theorem dX8_sumIn_25 : decode cX8_sumIn 25 = .ok (.iload_n 2, 1) := dk_28 (dk_at dksX8_sumIn_1 1 rfl rfl)
theorem dX8_sumIn_26 : decode cX8_sumIn 26 = .ok (.iload_n 1, 1) := dk_27 (dk_at dksX8_sumIn_1 2 rfl rfl)
theorem dX8_sumIn_27 : decode cX8_sumIn 27 = .ok (.invokevirtual 282, 3) := dk_182 1 26 (dk_at dksX8_sumIn_1 3 rfl rfl)
theorem dX8_sumIn_30 : decode cX8_sumIn 30 = .ok (.ireturn, 1) := dk_172 (dk_at dksX8_sumIn_1 6 rfl rfl)
abbrev cX8_isBroken : ByteArray := prog_16_method_13_code
def yX8_isBroken : MethodName := ⟨RX8, "isBroken", "(I)Z"⟩
def dkwX8_isBroken_0 : List UInt8 := [27, 2, 159, 0, 19, 42, 180, 0, 128, 27, 122, 4, 126, 4, 160, 0, 7, 4, 167, 0, 4, 3, 172]
abbrev dktX8_isBroken_0 : List UInt8 := dkwX8_isBroken_0 ++ []
theorem dksX8_isBroken_0 : cX8_isBroken.data.toList.drop 0 = dktX8_isBroken_0 := by decide +kernel
theorem dX8_isBroken_0 : decode cX8_isBroken 0 = .ok (.iload_n 1, 1) := dk_27 (dk_at dksX8_isBroken_0 0 rfl rfl)
theorem dX8_isBroken_1 : decode cX8_isBroken 1 = .ok (.iconst (-1), 1) := dk_2 (dk_at dksX8_isBroken_0 1 rfl rfl)
theorem dX8_isBroken_2 : decode cX8_isBroken 2 = .ok (.if_icmp .eq 19, 3) := dk_159 0 19 (dk_at dksX8_isBroken_0 2 rfl rfl)
theorem dX8_isBroken_5 : decode cX8_isBroken 5 = .ok (.aload_n 0, 1) := dk_42 (dk_at dksX8_isBroken_0 5 rfl rfl)
theorem dX8_isBroken_6 : decode cX8_isBroken 6 = .ok (.getfield 128, 3) := dk_180 0 128 (dk_at dksX8_isBroken_0 6 rfl rfl)
theorem dX8_isBroken_9 : decode cX8_isBroken 9 = .ok (.iload_n 1, 1) := dk_27 (dk_at dksX8_isBroken_0 9 rfl rfl)
theorem dX8_isBroken_10 : decode cX8_isBroken 10 = .ok (.ishr, 1) := dk_122 (dk_at dksX8_isBroken_0 10 rfl rfl)
theorem dX8_isBroken_11 : decode cX8_isBroken 11 = .ok (.iconst 1, 1) := dk_4 (dk_at dksX8_isBroken_0 11 rfl rfl)
theorem dX8_isBroken_12 : decode cX8_isBroken 12 = .ok (.iand, 1) := dk_126 (dk_at dksX8_isBroken_0 12 rfl rfl)
theorem dX8_isBroken_13 : decode cX8_isBroken 13 = .ok (.iconst 1, 1) := dk_4 (dk_at dksX8_isBroken_0 13 rfl rfl)
theorem dX8_isBroken_14 : decode cX8_isBroken 14 = .ok (.if_icmp .ne 7, 3) := dk_160 0 7 (dk_at dksX8_isBroken_0 14 rfl rfl)
theorem dX8_isBroken_17 : decode cX8_isBroken 17 = .ok (.iconst 1, 1) := dk_4 (dk_at dksX8_isBroken_0 17 rfl rfl)
theorem dX8_isBroken_18 : decode cX8_isBroken 18 = .ok (.goto 4, 3) := dk_167 0 4 (dk_at dksX8_isBroken_0 18 rfl rfl)
theorem dX8_isBroken_21 : decode cX8_isBroken 21 = .ok (.iconst 0, 1) := dk_3 (dk_at dksX8_isBroken_0 21 rfl rfl)
theorem dX8_isBroken_22 : decode cX8_isBroken 22 = .ok (.ireturn, 1) := dk_172 (dk_at dksX8_isBroken_0 22 rfl rfl)
abbrev cX8_sumOf : ByteArray := prog_16_method_43_code
def yX8_sumOf : MethodName := ⟨RX8, "sumOf", "(II)I"⟩
def dkwX8_sumOf_1 : List UInt8 := [132, 4, 1, 167, 255, 235, 29, 172]
abbrev dktX8_sumOf_1 : List UInt8 := dkwX8_sumOf_1 ++ []
def dkwX8_sumOf_0 : List UInt8 := [3, 62, 3, 54, 4, 21, 4, 16, 8, 162, 0, 20, 29, 42, 27, 28, 21, 4, 182, 1, 23, 96, 62]
abbrev dktX8_sumOf_0 : List UInt8 := dkwX8_sumOf_0 ++ dktX8_sumOf_1
theorem dksX8_sumOf_0 : cX8_sumOf.data.toList.drop 0 = dktX8_sumOf_0 := by decide +kernel
theorem dksX8_sumOf_1 : cX8_sumOf.data.toList.drop 23 = dktX8_sumOf_1 := dk_seg dksX8_sumOf_0 23 rfl rfl
theorem dX8_sumOf_0 : decode cX8_sumOf 0 = .ok (.iconst 0, 1) := dk_3 (dk_at dksX8_sumOf_0 0 rfl rfl)
theorem dX8_sumOf_1 : decode cX8_sumOf 1 = .ok (.istore_n 3, 1) := dk_62 (dk_at dksX8_sumOf_0 1 rfl rfl)
theorem dX8_sumOf_2 : decode cX8_sumOf 2 = .ok (.iconst 0, 1) := dk_3 (dk_at dksX8_sumOf_0 2 rfl rfl)
theorem dX8_sumOf_3 : decode cX8_sumOf 3 = .ok (.istore 4, 2) := dk_54 4 (dk_at dksX8_sumOf_0 3 rfl rfl)
theorem dX8_sumOf_5 : decode cX8_sumOf 5 = .ok (.iload 4, 2) := dk_21 4 (dk_at dksX8_sumOf_0 5 rfl rfl)
theorem dX8_sumOf_7 : decode cX8_sumOf 7 = .ok (.bipush 8, 2) := dk_16 8 (dk_at dksX8_sumOf_0 7 rfl rfl)
theorem dX8_sumOf_9 : decode cX8_sumOf 9 = .ok (.if_icmp .ge 20, 3) := dk_162 0 20 (dk_at dksX8_sumOf_0 9 rfl rfl)
theorem dX8_sumOf_12 : decode cX8_sumOf 12 = .ok (.iload_n 3, 1) := dk_29 (dk_at dksX8_sumOf_0 12 rfl rfl)
theorem dX8_sumOf_13 : decode cX8_sumOf 13 = .ok (.aload_n 0, 1) := dk_42 (dk_at dksX8_sumOf_0 13 rfl rfl)
theorem dX8_sumOf_14 : decode cX8_sumOf 14 = .ok (.iload_n 1, 1) := dk_27 (dk_at dksX8_sumOf_0 14 rfl rfl)
theorem dX8_sumOf_15 : decode cX8_sumOf 15 = .ok (.iload_n 2, 1) := dk_28 (dk_at dksX8_sumOf_0 15 rfl rfl)
theorem dX8_sumOf_16 : decode cX8_sumOf 16 = .ok (.iload 4, 2) := dk_21 4 (dk_at dksX8_sumOf_0 16 rfl rfl)
theorem dX8_sumOf_18 : decode cX8_sumOf 18 = .ok (.invokevirtual 279, 3) := dk_182 1 23 (dk_at dksX8_sumOf_0 18 rfl rfl)
theorem dX8_sumOf_21 : decode cX8_sumOf 21 = .ok (.iadd, 1) := dk_96 (dk_at dksX8_sumOf_0 21 rfl rfl)
theorem dX8_sumOf_22 : decode cX8_sumOf 22 = .ok (.istore_n 3, 1) := dk_62 (dk_at dksX8_sumOf_0 22 rfl rfl)
theorem dX8_sumOf_23 : decode cX8_sumOf 23 = .ok (.iinc 4 1, 3) := dk_132 4 1 (dk_at dksX8_sumOf_1 0 rfl rfl)
theorem dX8_sumOf_26 : decode cX8_sumOf 26 = .ok (.goto (-21), 3) := dk_167 255 235 (dk_at dksX8_sumOf_1 3 rfl rfl)
theorem dX8_sumOf_29 : decode cX8_sumOf 29 = .ok (.iload_n 3, 1) := dk_29 (dk_at dksX8_sumOf_1 6 rfl rfl)
theorem dX8_sumOf_30 : decode cX8_sumOf 30 = .ok (.ireturn, 1) := dk_172 (dk_at dksX8_sumOf_1 7 rfl rfl)
abbrev cX8_lightOf : ByteArray := prog_16_method_38_code
def yX8_lightOf : MethodName := ⟨RX8, "lightOf", "(III)I"⟩
def dkwX8_lightOf_7 : List UInt8 := [184, 1, 13, 172]
abbrev dktX8_lightOf_7 : List UInt8 := dkwX8_lightOf_7 ++ []
def dkwX8_lightOf_6 : List UInt8 := [160, 0, 13, 29, 16, 6, 162, 0, 7, 3, 167, 0, 5, 21, 6, 54, 8, 21, 8, 3, 17, 3, 231]
abbrev dktX8_lightOf_6 : List UInt8 := dkwX8_lightOf_6 ++ dktX8_lightOf_7
def dkwX8_lightOf_5 : List UInt8 := [16, 7, 112, 160, 0, 11, 21, 7, 16, 10, 96, 167, 0, 26, 21, 7, 167, 0, 21, 21, 4, 8]
abbrev dktX8_lightOf_5 : List UInt8 := dkwX8_lightOf_5 ++ dktX8_lightOf_6
def dkwX8_lightOf_4 : List UInt8 := [167, 0, 61, 21, 4, 7, 160, 0, 37, 42, 180, 0, 35, 6, 27, 104, 4, 96, 46, 16, 7, 112, 21, 5]
abbrev dktX8_lightOf_4 : List UInt8 := dkwX8_lightOf_4 ++ dktX8_lightOf_5
def dkwX8_lightOf_3 : List UInt8 := [160, 0, 15, 21, 6, 5, 108, 6, 21, 5, 104, 96, 167, 0, 72, 21, 4, 5, 160, 0, 8, 21, 7]
abbrev dktX8_lightOf_3 : List UInt8 := dkwX8_lightOf_3 ++ dktX8_lightOf_4
def dkwX8_lightOf_2 : List UInt8 := [167, 0, 5, 21, 6, 54, 7, 21, 4, 4, 160, 0, 10, 21, 6, 5, 108, 167, 0, 90, 21, 4, 6]
abbrev dktX8_lightOf_2 : List UInt8 := dkwX8_lightOf_2 ++ dktX8_lightOf_3
def dkwX8_lightOf_1 : List UInt8 := [182, 1, 17, 54, 6, 29, 133, 20, 0, 92, 20, 0, 122, 184, 0, 88, 153, 0, 10, 5, 21, 6, 104]
abbrev dktX8_lightOf_1 : List UInt8 := dkwX8_lightOf_1 ++ dktX8_lightOf_2
def dkwX8_lightOf_0 : List UInt8 := [42, 180, 0, 32, 27, 46, 54, 4, 42, 180, 0, 35, 6, 27, 104, 46, 54, 5, 42, 3, 27, 28, 29, 3]
abbrev dktX8_lightOf_0 : List UInt8 := dkwX8_lightOf_0 ++ dktX8_lightOf_1
theorem dksX8_lightOf_0 : cX8_lightOf.data.toList.drop 0 = dktX8_lightOf_0 := by decide +kernel
theorem dksX8_lightOf_1 : cX8_lightOf.data.toList.drop 24 = dktX8_lightOf_1 := dk_seg dksX8_lightOf_0 24 rfl rfl
theorem dksX8_lightOf_2 : cX8_lightOf.data.toList.drop 47 = dktX8_lightOf_2 := dk_seg dksX8_lightOf_1 23 rfl rfl
theorem dksX8_lightOf_3 : cX8_lightOf.data.toList.drop 70 = dktX8_lightOf_3 := dk_seg dksX8_lightOf_2 23 rfl rfl
theorem dksX8_lightOf_4 : cX8_lightOf.data.toList.drop 93 = dktX8_lightOf_4 := dk_seg dksX8_lightOf_3 23 rfl rfl
theorem dksX8_lightOf_5 : cX8_lightOf.data.toList.drop 117 = dktX8_lightOf_5 := dk_seg dksX8_lightOf_4 24 rfl rfl
theorem dksX8_lightOf_6 : cX8_lightOf.data.toList.drop 139 = dktX8_lightOf_6 := dk_seg dksX8_lightOf_5 22 rfl rfl
theorem dksX8_lightOf_7 : cX8_lightOf.data.toList.drop 162 = dktX8_lightOf_7 := dk_seg dksX8_lightOf_6 23 rfl rfl
theorem dX8_lightOf_0 : decode cX8_lightOf 0 = .ok (.aload_n 0, 1) := dk_42 (dk_at dksX8_lightOf_0 0 rfl rfl)
theorem dX8_lightOf_1 : decode cX8_lightOf 1 = .ok (.getfield 32, 3) := dk_180 0 32 (dk_at dksX8_lightOf_0 1 rfl rfl)
theorem dX8_lightOf_4 : decode cX8_lightOf 4 = .ok (.iload_n 1, 1) := dk_27 (dk_at dksX8_lightOf_0 4 rfl rfl)
theorem dX8_lightOf_5 : decode cX8_lightOf 5 = .ok (.iaload, 1) := dk_46 (dk_at dksX8_lightOf_0 5 rfl rfl)
theorem dX8_lightOf_6 : decode cX8_lightOf 6 = .ok (.istore 4, 2) := dk_54 4 (dk_at dksX8_lightOf_0 6 rfl rfl)
theorem dX8_lightOf_8 : decode cX8_lightOf 8 = .ok (.aload_n 0, 1) := dk_42 (dk_at dksX8_lightOf_0 8 rfl rfl)
theorem dX8_lightOf_9 : decode cX8_lightOf 9 = .ok (.getfield 35, 3) := dk_180 0 35 (dk_at dksX8_lightOf_0 9 rfl rfl)
theorem dX8_lightOf_12 : decode cX8_lightOf 12 = .ok (.iconst 3, 1) := dk_6 (dk_at dksX8_lightOf_0 12 rfl rfl)
theorem dX8_lightOf_13 : decode cX8_lightOf 13 = .ok (.iload_n 1, 1) := dk_27 (dk_at dksX8_lightOf_0 13 rfl rfl)
theorem dX8_lightOf_14 : decode cX8_lightOf 14 = .ok (.imul, 1) := dk_104 (dk_at dksX8_lightOf_0 14 rfl rfl)
theorem dX8_lightOf_15 : decode cX8_lightOf 15 = .ok (.iaload, 1) := dk_46 (dk_at dksX8_lightOf_0 15 rfl rfl)
theorem dX8_lightOf_16 : decode cX8_lightOf 16 = .ok (.istore 5, 2) := dk_54 5 (dk_at dksX8_lightOf_0 16 rfl rfl)
theorem dX8_lightOf_18 : decode cX8_lightOf 18 = .ok (.aload_n 0, 1) := dk_42 (dk_at dksX8_lightOf_0 18 rfl rfl)
theorem dX8_lightOf_19 : decode cX8_lightOf 19 = .ok (.iconst 0, 1) := dk_3 (dk_at dksX8_lightOf_0 19 rfl rfl)
theorem dX8_lightOf_20 : decode cX8_lightOf 20 = .ok (.iload_n 1, 1) := dk_27 (dk_at dksX8_lightOf_0 20 rfl rfl)
theorem dX8_lightOf_21 : decode cX8_lightOf 21 = .ok (.iload_n 2, 1) := dk_28 (dk_at dksX8_lightOf_0 21 rfl rfl)
theorem dX8_lightOf_22 : decode cX8_lightOf 22 = .ok (.iload_n 3, 1) := dk_29 (dk_at dksX8_lightOf_0 22 rfl rfl)
theorem dX8_lightOf_23 : decode cX8_lightOf 23 = .ok (.iconst 0, 1) := dk_3 (dk_at dksX8_lightOf_0 23 rfl rfl)
theorem dX8_lightOf_24 : decode cX8_lightOf 24 = .ok (.invokevirtual 273, 3) := dk_182 1 17 (dk_at dksX8_lightOf_1 0 rfl rfl)
theorem dX8_lightOf_27 : decode cX8_lightOf 27 = .ok (.istore 6, 2) := dk_54 6 (dk_at dksX8_lightOf_1 3 rfl rfl)
theorem dX8_lightOf_29 : decode cX8_lightOf 29 = .ok (.iload_n 3, 1) := dk_29 (dk_at dksX8_lightOf_1 5 rfl rfl)
theorem dX8_lightOf_30 : decode cX8_lightOf 30 = .ok (.i2l, 1) := dk_133 (dk_at dksX8_lightOf_1 6 rfl rfl)
theorem dX8_lightOf_31 : decode cX8_lightOf 31 = .ok (.ldc2_w 92, 3) := dk_20 0 92 (dk_at dksX8_lightOf_1 7 rfl rfl)
theorem dX8_lightOf_34 : decode cX8_lightOf 34 = .ok (.ldc2_w 122, 3) := dk_20 0 122 (dk_at dksX8_lightOf_1 10 rfl rfl)
theorem dX8_lightOf_37 : decode cX8_lightOf 37 = .ok (.invokestatic 88, 3) := dk_184 0 88 (dk_at dksX8_lightOf_1 13 rfl rfl)
theorem dX8_lightOf_40 : decode cX8_lightOf 40 = .ok (.ifCond .eq 10, 3) := dk_153 0 10 (dk_at dksX8_lightOf_1 16 rfl rfl)
theorem dX8_lightOf_43 : decode cX8_lightOf 43 = .ok (.iconst 2, 1) := dk_5 (dk_at dksX8_lightOf_1 19 rfl rfl)
theorem dX8_lightOf_44 : decode cX8_lightOf 44 = .ok (.iload 6, 2) := dk_21 6 (dk_at dksX8_lightOf_1 20 rfl rfl)
theorem dX8_lightOf_46 : decode cX8_lightOf 46 = .ok (.imul, 1) := dk_104 (dk_at dksX8_lightOf_1 22 rfl rfl)
theorem dX8_lightOf_47 : decode cX8_lightOf 47 = .ok (.goto 5, 3) := dk_167 0 5 (dk_at dksX8_lightOf_2 0 rfl rfl)
theorem dX8_lightOf_50 : decode cX8_lightOf 50 = .ok (.iload 6, 2) := dk_21 6 (dk_at dksX8_lightOf_2 3 rfl rfl)
theorem dX8_lightOf_52 : decode cX8_lightOf 52 = .ok (.istore 7, 2) := dk_54 7 (dk_at dksX8_lightOf_2 5 rfl rfl)
theorem dX8_lightOf_54 : decode cX8_lightOf 54 = .ok (.iload 4, 2) := dk_21 4 (dk_at dksX8_lightOf_2 7 rfl rfl)
theorem dX8_lightOf_56 : decode cX8_lightOf 56 = .ok (.iconst 1, 1) := dk_4 (dk_at dksX8_lightOf_2 9 rfl rfl)
theorem dX8_lightOf_57 : decode cX8_lightOf 57 = .ok (.if_icmp .ne 10, 3) := dk_160 0 10 (dk_at dksX8_lightOf_2 10 rfl rfl)
theorem dX8_lightOf_60 : decode cX8_lightOf 60 = .ok (.iload 6, 2) := dk_21 6 (dk_at dksX8_lightOf_2 13 rfl rfl)
theorem dX8_lightOf_62 : decode cX8_lightOf 62 = .ok (.iconst 2, 1) := dk_5 (dk_at dksX8_lightOf_2 15 rfl rfl)
theorem dX8_lightOf_63 : decode cX8_lightOf 63 = .ok (.idiv, 1) := dk_108 (dk_at dksX8_lightOf_2 16 rfl rfl)
theorem dX8_lightOf_64 : decode cX8_lightOf 64 = .ok (.goto 90, 3) := dk_167 0 90 (dk_at dksX8_lightOf_2 17 rfl rfl)
theorem dX8_lightOf_67 : decode cX8_lightOf 67 = .ok (.iload 4, 2) := dk_21 4 (dk_at dksX8_lightOf_2 20 rfl rfl)
theorem dX8_lightOf_69 : decode cX8_lightOf 69 = .ok (.iconst 3, 1) := dk_6 (dk_at dksX8_lightOf_2 22 rfl rfl)
theorem dX8_lightOf_70 : decode cX8_lightOf 70 = .ok (.if_icmp .ne 15, 3) := dk_160 0 15 (dk_at dksX8_lightOf_3 0 rfl rfl)
theorem dX8_lightOf_73 : decode cX8_lightOf 73 = .ok (.iload 6, 2) := dk_21 6 (dk_at dksX8_lightOf_3 3 rfl rfl)
theorem dX8_lightOf_75 : decode cX8_lightOf 75 = .ok (.iconst 2, 1) := dk_5 (dk_at dksX8_lightOf_3 5 rfl rfl)
theorem dX8_lightOf_76 : decode cX8_lightOf 76 = .ok (.idiv, 1) := dk_108 (dk_at dksX8_lightOf_3 6 rfl rfl)
theorem dX8_lightOf_77 : decode cX8_lightOf 77 = .ok (.iconst 3, 1) := dk_6 (dk_at dksX8_lightOf_3 7 rfl rfl)
theorem dX8_lightOf_78 : decode cX8_lightOf 78 = .ok (.iload 5, 2) := dk_21 5 (dk_at dksX8_lightOf_3 8 rfl rfl)
theorem dX8_lightOf_80 : decode cX8_lightOf 80 = .ok (.imul, 1) := dk_104 (dk_at dksX8_lightOf_3 10 rfl rfl)
theorem dX8_lightOf_81 : decode cX8_lightOf 81 = .ok (.iadd, 1) := dk_96 (dk_at dksX8_lightOf_3 11 rfl rfl)
theorem dX8_lightOf_82 : decode cX8_lightOf 82 = .ok (.goto 72, 3) := dk_167 0 72 (dk_at dksX8_lightOf_3 12 rfl rfl)
theorem dX8_lightOf_85 : decode cX8_lightOf 85 = .ok (.iload 4, 2) := dk_21 4 (dk_at dksX8_lightOf_3 15 rfl rfl)
theorem dX8_lightOf_87 : decode cX8_lightOf 87 = .ok (.iconst 2, 1) := dk_5 (dk_at dksX8_lightOf_3 17 rfl rfl)
theorem dX8_lightOf_88 : decode cX8_lightOf 88 = .ok (.if_icmp .ne 8, 3) := dk_160 0 8 (dk_at dksX8_lightOf_3 18 rfl rfl)
theorem dX8_lightOf_91 : decode cX8_lightOf 91 = .ok (.iload 7, 2) := dk_21 7 (dk_at dksX8_lightOf_3 21 rfl rfl)
theorem dX8_lightOf_93 : decode cX8_lightOf 93 = .ok (.goto 61, 3) := dk_167 0 61 (dk_at dksX8_lightOf_4 0 rfl rfl)
theorem dX8_lightOf_96 : decode cX8_lightOf 96 = .ok (.iload 4, 2) := dk_21 4 (dk_at dksX8_lightOf_4 3 rfl rfl)
theorem dX8_lightOf_98 : decode cX8_lightOf 98 = .ok (.iconst 4, 1) := dk_7 (dk_at dksX8_lightOf_4 5 rfl rfl)
theorem dX8_lightOf_99 : decode cX8_lightOf 99 = .ok (.if_icmp .ne 37, 3) := dk_160 0 37 (dk_at dksX8_lightOf_4 6 rfl rfl)
theorem dX8_lightOf_102 : decode cX8_lightOf 102 = .ok (.aload_n 0, 1) := dk_42 (dk_at dksX8_lightOf_4 9 rfl rfl)
theorem dX8_lightOf_103 : decode cX8_lightOf 103 = .ok (.getfield 35, 3) := dk_180 0 35 (dk_at dksX8_lightOf_4 10 rfl rfl)
theorem dX8_lightOf_106 : decode cX8_lightOf 106 = .ok (.iconst 3, 1) := dk_6 (dk_at dksX8_lightOf_4 13 rfl rfl)
theorem dX8_lightOf_107 : decode cX8_lightOf 107 = .ok (.iload_n 1, 1) := dk_27 (dk_at dksX8_lightOf_4 14 rfl rfl)
theorem dX8_lightOf_108 : decode cX8_lightOf 108 = .ok (.imul, 1) := dk_104 (dk_at dksX8_lightOf_4 15 rfl rfl)
theorem dX8_lightOf_109 : decode cX8_lightOf 109 = .ok (.iconst 1, 1) := dk_4 (dk_at dksX8_lightOf_4 16 rfl rfl)
theorem dX8_lightOf_110 : decode cX8_lightOf 110 = .ok (.iadd, 1) := dk_96 (dk_at dksX8_lightOf_4 17 rfl rfl)
theorem dX8_lightOf_111 : decode cX8_lightOf 111 = .ok (.iaload, 1) := dk_46 (dk_at dksX8_lightOf_4 18 rfl rfl)
theorem dX8_lightOf_112 : decode cX8_lightOf 112 = .ok (.bipush 7, 2) := dk_16 7 (dk_at dksX8_lightOf_4 19 rfl rfl)
theorem dX8_lightOf_114 : decode cX8_lightOf 114 = .ok (.irem, 1) := dk_112 (dk_at dksX8_lightOf_4 21 rfl rfl)
theorem dX8_lightOf_115 : decode cX8_lightOf 115 = .ok (.iload 5, 2) := dk_21 5 (dk_at dksX8_lightOf_4 22 rfl rfl)
theorem dX8_lightOf_117 : decode cX8_lightOf 117 = .ok (.bipush 7, 2) := dk_16 7 (dk_at dksX8_lightOf_5 0 rfl rfl)
theorem dX8_lightOf_119 : decode cX8_lightOf 119 = .ok (.irem, 1) := dk_112 (dk_at dksX8_lightOf_5 2 rfl rfl)
theorem dX8_lightOf_120 : decode cX8_lightOf 120 = .ok (.if_icmp .ne 11, 3) := dk_160 0 11 (dk_at dksX8_lightOf_5 3 rfl rfl)
theorem dX8_lightOf_123 : decode cX8_lightOf 123 = .ok (.iload 7, 2) := dk_21 7 (dk_at dksX8_lightOf_5 6 rfl rfl)
theorem dX8_lightOf_125 : decode cX8_lightOf 125 = .ok (.bipush 10, 2) := dk_16 10 (dk_at dksX8_lightOf_5 8 rfl rfl)
theorem dX8_lightOf_127 : decode cX8_lightOf 127 = .ok (.iadd, 1) := dk_96 (dk_at dksX8_lightOf_5 10 rfl rfl)
theorem dX8_lightOf_128 : decode cX8_lightOf 128 = .ok (.goto 26, 3) := dk_167 0 26 (dk_at dksX8_lightOf_5 11 rfl rfl)
theorem dX8_lightOf_131 : decode cX8_lightOf 131 = .ok (.iload 7, 2) := dk_21 7 (dk_at dksX8_lightOf_5 14 rfl rfl)
theorem dX8_lightOf_133 : decode cX8_lightOf 133 = .ok (.goto 21, 3) := dk_167 0 21 (dk_at dksX8_lightOf_5 16 rfl rfl)
theorem dX8_lightOf_136 : decode cX8_lightOf 136 = .ok (.iload 4, 2) := dk_21 4 (dk_at dksX8_lightOf_5 19 rfl rfl)
theorem dX8_lightOf_138 : decode cX8_lightOf 138 = .ok (.iconst 5, 1) := dk_8 (dk_at dksX8_lightOf_5 21 rfl rfl)
theorem dX8_lightOf_139 : decode cX8_lightOf 139 = .ok (.if_icmp .ne 13, 3) := dk_160 0 13 (dk_at dksX8_lightOf_6 0 rfl rfl)
theorem dX8_lightOf_142 : decode cX8_lightOf 142 = .ok (.iload_n 3, 1) := dk_29 (dk_at dksX8_lightOf_6 3 rfl rfl)
theorem dX8_lightOf_143 : decode cX8_lightOf 143 = .ok (.bipush 6, 2) := dk_16 6 (dk_at dksX8_lightOf_6 4 rfl rfl)
theorem dX8_lightOf_145 : decode cX8_lightOf 145 = .ok (.if_icmp .ge 7, 3) := dk_162 0 7 (dk_at dksX8_lightOf_6 6 rfl rfl)
theorem dX8_lightOf_148 : decode cX8_lightOf 148 = .ok (.iconst 0, 1) := dk_3 (dk_at dksX8_lightOf_6 9 rfl rfl)
theorem dX8_lightOf_149 : decode cX8_lightOf 149 = .ok (.goto 5, 3) := dk_167 0 5 (dk_at dksX8_lightOf_6 10 rfl rfl)
theorem dX8_lightOf_152 : decode cX8_lightOf 152 = .ok (.iload 6, 2) := dk_21 6 (dk_at dksX8_lightOf_6 13 rfl rfl)
theorem dX8_lightOf_154 : decode cX8_lightOf 154 = .ok (.istore 8, 2) := dk_54 8 (dk_at dksX8_lightOf_6 15 rfl rfl)
theorem dX8_lightOf_156 : decode cX8_lightOf 156 = .ok (.iload 8, 2) := dk_21 8 (dk_at dksX8_lightOf_6 17 rfl rfl)
theorem dX8_lightOf_158 : decode cX8_lightOf 158 = .ok (.iconst 0, 1) := dk_3 (dk_at dksX8_lightOf_6 19 rfl rfl)
theorem dX8_lightOf_159 : decode cX8_lightOf 159 = .ok (.sipush 999, 3) := dk_17 3 231 (dk_at dksX8_lightOf_6 20 rfl rfl)
theorem dX8_lightOf_162 : decode cX8_lightOf 162 = .ok (.invokestatic 269, 3) := dk_184 1 13 (dk_at dksX8_lightOf_7 0 rfl rfl)
theorem dX8_lightOf_165 : decode cX8_lightOf 165 = .ok (.ireturn, 1) := dk_172 (dk_at dksX8_lightOf_7 3 rfl rfl)
abbrev cX8_asks : ByteArray := prog_16_method_37_code
def yX8_asks : MethodName := ⟨RX8, "asks", "(IIIII)I"⟩
def dkwX8_asks_3 : List UInt8 := [160, 0, 8, 21, 6, 167, 0, 11, 21, 6, 3, 16, 99, 184, 1, 13, 172]
abbrev dktX8_asks_3 : List UInt8 := dkwX8_asks_3 ++ []
def dkwX8_asks_2 : List UInt8 := [42, 29, 181, 0, 223, 42, 21, 5, 181, 0, 226, 42, 42, 180, 0, 119, 27, 182, 1, 10, 54, 6, 27, 5]
abbrev dktX8_asks_2 : List UInt8 := dkwX8_asks_2 ++ dktX8_asks_3
def dkwX8_asks_1 : List UInt8 := [180, 0, 35, 6, 28, 104, 5, 96, 46, 181, 0, 217, 42, 42, 180, 0, 35, 6, 28, 104, 46, 181, 0, 220]
abbrev dktX8_asks_1 : List UInt8 := dkwX8_asks_1 ++ dktX8_asks_2
def dkwX8_asks_0 : List UInt8 := [42, 21, 4, 181, 0, 211, 42, 42, 180, 0, 35, 6, 28, 104, 4, 96, 46, 181, 0, 214, 42, 42]
abbrev dktX8_asks_0 : List UInt8 := dkwX8_asks_0 ++ dktX8_asks_1
theorem dksX8_asks_0 : cX8_asks.data.toList.drop 0 = dktX8_asks_0 := by decide +kernel
theorem dksX8_asks_1 : cX8_asks.data.toList.drop 22 = dktX8_asks_1 := dk_seg dksX8_asks_0 22 rfl rfl
theorem dksX8_asks_2 : cX8_asks.data.toList.drop 46 = dktX8_asks_2 := dk_seg dksX8_asks_1 24 rfl rfl
theorem dksX8_asks_3 : cX8_asks.data.toList.drop 70 = dktX8_asks_3 := dk_seg dksX8_asks_2 24 rfl rfl
theorem dX8_asks_0 : decode cX8_asks 0 = .ok (.aload_n 0, 1) := dk_42 (dk_at dksX8_asks_0 0 rfl rfl)
theorem dX8_asks_1 : decode cX8_asks 1 = .ok (.iload 4, 2) := dk_21 4 (dk_at dksX8_asks_0 1 rfl rfl)
theorem dX8_asks_3 : decode cX8_asks 3 = .ok (.putfield 211, 3) := dk_181 0 211 (dk_at dksX8_asks_0 3 rfl rfl)
theorem dX8_asks_6 : decode cX8_asks 6 = .ok (.aload_n 0, 1) := dk_42 (dk_at dksX8_asks_0 6 rfl rfl)
theorem dX8_asks_7 : decode cX8_asks 7 = .ok (.aload_n 0, 1) := dk_42 (dk_at dksX8_asks_0 7 rfl rfl)
theorem dX8_asks_8 : decode cX8_asks 8 = .ok (.getfield 35, 3) := dk_180 0 35 (dk_at dksX8_asks_0 8 rfl rfl)
theorem dX8_asks_11 : decode cX8_asks 11 = .ok (.iconst 3, 1) := dk_6 (dk_at dksX8_asks_0 11 rfl rfl)
theorem dX8_asks_12 : decode cX8_asks 12 = .ok (.iload_n 2, 1) := dk_28 (dk_at dksX8_asks_0 12 rfl rfl)
theorem dX8_asks_13 : decode cX8_asks 13 = .ok (.imul, 1) := dk_104 (dk_at dksX8_asks_0 13 rfl rfl)
theorem dX8_asks_14 : decode cX8_asks 14 = .ok (.iconst 1, 1) := dk_4 (dk_at dksX8_asks_0 14 rfl rfl)
theorem dX8_asks_15 : decode cX8_asks 15 = .ok (.iadd, 1) := dk_96 (dk_at dksX8_asks_0 15 rfl rfl)
theorem dX8_asks_16 : decode cX8_asks 16 = .ok (.iaload, 1) := dk_46 (dk_at dksX8_asks_0 16 rfl rfl)
theorem dX8_asks_17 : decode cX8_asks 17 = .ok (.putfield 214, 3) := dk_181 0 214 (dk_at dksX8_asks_0 17 rfl rfl)
theorem dX8_asks_20 : decode cX8_asks 20 = .ok (.aload_n 0, 1) := dk_42 (dk_at dksX8_asks_0 20 rfl rfl)
theorem dX8_asks_21 : decode cX8_asks 21 = .ok (.aload_n 0, 1) := dk_42 (dk_at dksX8_asks_0 21 rfl rfl)
theorem dX8_asks_22 : decode cX8_asks 22 = .ok (.getfield 35, 3) := dk_180 0 35 (dk_at dksX8_asks_1 0 rfl rfl)
theorem dX8_asks_25 : decode cX8_asks 25 = .ok (.iconst 3, 1) := dk_6 (dk_at dksX8_asks_1 3 rfl rfl)
theorem dX8_asks_26 : decode cX8_asks 26 = .ok (.iload_n 2, 1) := dk_28 (dk_at dksX8_asks_1 4 rfl rfl)
theorem dX8_asks_27 : decode cX8_asks 27 = .ok (.imul, 1) := dk_104 (dk_at dksX8_asks_1 5 rfl rfl)
theorem dX8_asks_28 : decode cX8_asks 28 = .ok (.iconst 2, 1) := dk_5 (dk_at dksX8_asks_1 6 rfl rfl)
theorem dX8_asks_29 : decode cX8_asks 29 = .ok (.iadd, 1) := dk_96 (dk_at dksX8_asks_1 7 rfl rfl)
theorem dX8_asks_30 : decode cX8_asks 30 = .ok (.iaload, 1) := dk_46 (dk_at dksX8_asks_1 8 rfl rfl)
theorem dX8_asks_31 : decode cX8_asks 31 = .ok (.putfield 217, 3) := dk_181 0 217 (dk_at dksX8_asks_1 9 rfl rfl)
theorem dX8_asks_34 : decode cX8_asks 34 = .ok (.aload_n 0, 1) := dk_42 (dk_at dksX8_asks_1 12 rfl rfl)
theorem dX8_asks_35 : decode cX8_asks 35 = .ok (.aload_n 0, 1) := dk_42 (dk_at dksX8_asks_1 13 rfl rfl)
theorem dX8_asks_36 : decode cX8_asks 36 = .ok (.getfield 35, 3) := dk_180 0 35 (dk_at dksX8_asks_1 14 rfl rfl)
theorem dX8_asks_39 : decode cX8_asks 39 = .ok (.iconst 3, 1) := dk_6 (dk_at dksX8_asks_1 17 rfl rfl)
theorem dX8_asks_40 : decode cX8_asks 40 = .ok (.iload_n 2, 1) := dk_28 (dk_at dksX8_asks_1 18 rfl rfl)
theorem dX8_asks_41 : decode cX8_asks 41 = .ok (.imul, 1) := dk_104 (dk_at dksX8_asks_1 19 rfl rfl)
theorem dX8_asks_42 : decode cX8_asks 42 = .ok (.iaload, 1) := dk_46 (dk_at dksX8_asks_1 20 rfl rfl)
theorem dX8_asks_43 : decode cX8_asks 43 = .ok (.putfield 220, 3) := dk_181 0 220 (dk_at dksX8_asks_1 21 rfl rfl)
theorem dX8_asks_46 : decode cX8_asks 46 = .ok (.aload_n 0, 1) := dk_42 (dk_at dksX8_asks_2 0 rfl rfl)
theorem dX8_asks_47 : decode cX8_asks 47 = .ok (.iload_n 3, 1) := dk_29 (dk_at dksX8_asks_2 1 rfl rfl)
theorem dX8_asks_48 : decode cX8_asks 48 = .ok (.putfield 223, 3) := dk_181 0 223 (dk_at dksX8_asks_2 2 rfl rfl)
theorem dX8_asks_51 : decode cX8_asks 51 = .ok (.aload_n 0, 1) := dk_42 (dk_at dksX8_asks_2 5 rfl rfl)
theorem dX8_asks_52 : decode cX8_asks 52 = .ok (.iload 5, 2) := dk_21 5 (dk_at dksX8_asks_2 6 rfl rfl)
theorem dX8_asks_54 : decode cX8_asks 54 = .ok (.putfield 226, 3) := dk_181 0 226 (dk_at dksX8_asks_2 8 rfl rfl)
theorem dX8_asks_57 : decode cX8_asks 57 = .ok (.aload_n 0, 1) := dk_42 (dk_at dksX8_asks_2 11 rfl rfl)
theorem dX8_asks_58 : decode cX8_asks 58 = .ok (.aload_n 0, 1) := dk_42 (dk_at dksX8_asks_2 12 rfl rfl)
theorem dX8_asks_59 : decode cX8_asks 59 = .ok (.getfield 119, 3) := dk_180 0 119 (dk_at dksX8_asks_2 13 rfl rfl)
theorem dX8_asks_62 : decode cX8_asks 62 = .ok (.iload_n 1, 1) := dk_27 (dk_at dksX8_asks_2 16 rfl rfl)
theorem dX8_asks_63 : decode cX8_asks 63 = .ok (.invokevirtual 266, 3) := dk_182 1 10 (dk_at dksX8_asks_2 17 rfl rfl)
theorem dX8_asks_66 : decode cX8_asks 66 = .ok (.istore 6, 2) := dk_54 6 (dk_at dksX8_asks_2 20 rfl rfl)
theorem dX8_asks_68 : decode cX8_asks 68 = .ok (.iload_n 1, 1) := dk_27 (dk_at dksX8_asks_2 22 rfl rfl)
theorem dX8_asks_69 : decode cX8_asks 69 = .ok (.iconst 2, 1) := dk_5 (dk_at dksX8_asks_2 23 rfl rfl)
theorem dX8_asks_70 : decode cX8_asks 70 = .ok (.if_icmp .ne 8, 3) := dk_160 0 8 (dk_at dksX8_asks_3 0 rfl rfl)
theorem dX8_asks_73 : decode cX8_asks 73 = .ok (.iload 6, 2) := dk_21 6 (dk_at dksX8_asks_3 3 rfl rfl)
theorem dX8_asks_75 : decode cX8_asks 75 = .ok (.goto 11, 3) := dk_167 0 11 (dk_at dksX8_asks_3 5 rfl rfl)
theorem dX8_asks_78 : decode cX8_asks 78 = .ok (.iload 6, 2) := dk_21 6 (dk_at dksX8_asks_3 8 rfl rfl)
theorem dX8_asks_80 : decode cX8_asks 80 = .ok (.iconst 0, 1) := dk_3 (dk_at dksX8_asks_3 10 rfl rfl)
theorem dX8_asks_81 : decode cX8_asks 81 = .ok (.bipush 99, 2) := dk_16 99 (dk_at dksX8_asks_3 11 rfl rfl)
theorem dX8_asks_83 : decode cX8_asks 83 = .ok (.invokestatic 269, 3) := dk_184 1 13 (dk_at dksX8_asks_3 13 rfl rfl)
theorem dX8_asks_86 : decode cX8_asks 86 = .ok (.ireturn, 1) := dk_172 (dk_at dksX8_asks_3 16 rfl rfl)
abbrev cX8_read : ByteArray := prog_16_method_34_code
def yX8_read : MethodName := ⟨RX8, "read", "(II)I"⟩
def dkwX8_read_7 : List UInt8 := [167, 0, 5, 21, 5, 172]
abbrev dktX8_read_7 : List UInt8 := dkwX8_read_7 ++ []
def dkwX8_read_6 : List UInt8 := [153, 0, 7, 42, 182, 0, 201, 28, 154, 0, 7, 29, 167, 0, 15, 28, 4, 160, 0, 8, 21, 4]
abbrev dktX8_read_6 : List UInt8 := dkwX8_read_6 ++ dktX8_read_7
def dkwX8_read_5 : List UInt8 := [16, 108, 16, 115, 182, 0, 207, 182, 1, 6, 54, 5, 42, 180, 0, 188, 154, 0, 14, 42, 180, 0, 171]
abbrev dktX8_read_5 : List UInt8 := dkwX8_read_5 ++ dktX8_read_6
def dkwX8_read_4 : List UInt8 := [180, 0, 188, 153, 0, 7, 3, 167, 0, 27, 42, 42, 16, 113, 16, 117, 16, 97, 16, 114, 16, 114, 16, 101]
abbrev dktX8_read_4 : List UInt8 := dkwX8_read_4 ++ dktX8_read_5
def dkwX8_read_3 : List UInt8 := [42, 42, 16, 99, 16, 111, 16, 115, 16, 116, 16, 115, 3, 3, 3, 182, 0, 207, 182, 1, 6, 54, 4, 42]
abbrev dktX8_read_3 : List UInt8 := dkwX8_read_3 ++ dktX8_read_4
def dkwX8_read_2 : List UInt8 := [16, 116, 16, 115, 3, 3, 182, 0, 207, 182, 1, 6, 62, 42, 180, 0, 188, 153, 0, 7, 3, 167, 0, 24]
abbrev dktX8_read_2 : List UInt8 := dkwX8_read_2 ++ dktX8_read_3
def dkwX8_read_1 : List UInt8 := [42, 3, 181, 0, 198, 42, 3, 181, 0, 188, 42, 182, 0, 204, 42, 42, 16, 108, 16, 105, 16, 103, 16, 104]
abbrev dktX8_read_1 : List UInt8 := dkwX8_read_1 ++ dktX8_read_2
def dkwX8_read_0 : List UInt8 := [42, 17, 0, 160, 27, 104, 181, 0, 159, 42, 42, 180, 0, 17, 27, 46, 181, 0, 156, 42, 3, 181, 0, 162]
abbrev dktX8_read_0 : List UInt8 := dkwX8_read_0 ++ dktX8_read_1
theorem dksX8_read_0 : cX8_read.data.toList.drop 0 = dktX8_read_0 := by decide +kernel
theorem dksX8_read_1 : cX8_read.data.toList.drop 24 = dktX8_read_1 := dk_seg dksX8_read_0 24 rfl rfl
theorem dksX8_read_2 : cX8_read.data.toList.drop 48 = dktX8_read_2 := dk_seg dksX8_read_1 24 rfl rfl
theorem dksX8_read_3 : cX8_read.data.toList.drop 72 = dktX8_read_3 := dk_seg dksX8_read_2 24 rfl rfl
theorem dksX8_read_4 : cX8_read.data.toList.drop 96 = dktX8_read_4 := dk_seg dksX8_read_3 24 rfl rfl
theorem dksX8_read_5 : cX8_read.data.toList.drop 120 = dktX8_read_5 := dk_seg dksX8_read_4 24 rfl rfl
theorem dksX8_read_6 : cX8_read.data.toList.drop 143 = dktX8_read_6 := dk_seg dksX8_read_5 23 rfl rfl
theorem dksX8_read_7 : cX8_read.data.toList.drop 165 = dktX8_read_7 := dk_seg dksX8_read_6 22 rfl rfl
theorem dX8_read_0 : decode cX8_read 0 = .ok (.aload_n 0, 1) := dk_42 (dk_at dksX8_read_0 0 rfl rfl)
theorem dX8_read_1 : decode cX8_read 1 = .ok (.sipush 160, 3) := dk_17 0 160 (dk_at dksX8_read_0 1 rfl rfl)
theorem dX8_read_4 : decode cX8_read 4 = .ok (.iload_n 1, 1) := dk_27 (dk_at dksX8_read_0 4 rfl rfl)
theorem dX8_read_5 : decode cX8_read 5 = .ok (.imul, 1) := dk_104 (dk_at dksX8_read_0 5 rfl rfl)
theorem dX8_read_6 : decode cX8_read 6 = .ok (.putfield 159, 3) := dk_181 0 159 (dk_at dksX8_read_0 6 rfl rfl)
theorem dX8_read_9 : decode cX8_read 9 = .ok (.aload_n 0, 1) := dk_42 (dk_at dksX8_read_0 9 rfl rfl)
theorem dX8_read_10 : decode cX8_read 10 = .ok (.aload_n 0, 1) := dk_42 (dk_at dksX8_read_0 10 rfl rfl)
theorem dX8_read_11 : decode cX8_read 11 = .ok (.getfield 17, 3) := dk_180 0 17 (dk_at dksX8_read_0 11 rfl rfl)
theorem dX8_read_14 : decode cX8_read 14 = .ok (.iload_n 1, 1) := dk_27 (dk_at dksX8_read_0 14 rfl rfl)
theorem dX8_read_15 : decode cX8_read 15 = .ok (.iaload, 1) := dk_46 (dk_at dksX8_read_0 15 rfl rfl)
theorem dX8_read_16 : decode cX8_read 16 = .ok (.putfield 156, 3) := dk_181 0 156 (dk_at dksX8_read_0 16 rfl rfl)
theorem dX8_read_19 : decode cX8_read 19 = .ok (.aload_n 0, 1) := dk_42 (dk_at dksX8_read_0 19 rfl rfl)
theorem dX8_read_20 : decode cX8_read 20 = .ok (.iconst 0, 1) := dk_3 (dk_at dksX8_read_0 20 rfl rfl)
theorem dX8_read_21 : decode cX8_read 21 = .ok (.putfield 162, 3) := dk_181 0 162 (dk_at dksX8_read_0 21 rfl rfl)
theorem dX8_read_24 : decode cX8_read 24 = .ok (.aload_n 0, 1) := dk_42 (dk_at dksX8_read_1 0 rfl rfl)
theorem dX8_read_25 : decode cX8_read 25 = .ok (.iconst 0, 1) := dk_3 (dk_at dksX8_read_1 1 rfl rfl)
theorem dX8_read_26 : decode cX8_read 26 = .ok (.putfield 198, 3) := dk_181 0 198 (dk_at dksX8_read_1 2 rfl rfl)
theorem dX8_read_29 : decode cX8_read 29 = .ok (.aload_n 0, 1) := dk_42 (dk_at dksX8_read_1 5 rfl rfl)
theorem dX8_read_30 : decode cX8_read 30 = .ok (.iconst 0, 1) := dk_3 (dk_at dksX8_read_1 6 rfl rfl)
theorem dX8_read_31 : decode cX8_read 31 = .ok (.putfield 188, 3) := dk_181 0 188 (dk_at dksX8_read_1 7 rfl rfl)
theorem dX8_read_34 : decode cX8_read 34 = .ok (.aload_n 0, 1) := dk_42 (dk_at dksX8_read_1 10 rfl rfl)
theorem dX8_read_35 : decode cX8_read 35 = .ok (.invokevirtual 204, 3) := dk_182 0 204 (dk_at dksX8_read_1 11 rfl rfl)
theorem dX8_read_38 : decode cX8_read 38 = .ok (.aload_n 0, 1) := dk_42 (dk_at dksX8_read_1 14 rfl rfl)
theorem dX8_read_39 : decode cX8_read 39 = .ok (.aload_n 0, 1) := dk_42 (dk_at dksX8_read_1 15 rfl rfl)
theorem dX8_read_40 : decode cX8_read 40 = .ok (.bipush 108, 2) := dk_16 108 (dk_at dksX8_read_1 16 rfl rfl)
theorem dX8_read_42 : decode cX8_read 42 = .ok (.bipush 105, 2) := dk_16 105 (dk_at dksX8_read_1 18 rfl rfl)
theorem dX8_read_44 : decode cX8_read 44 = .ok (.bipush 103, 2) := dk_16 103 (dk_at dksX8_read_1 20 rfl rfl)
theorem dX8_read_46 : decode cX8_read 46 = .ok (.bipush 104, 2) := dk_16 104 (dk_at dksX8_read_1 22 rfl rfl)
theorem dX8_read_48 : decode cX8_read 48 = .ok (.bipush 116, 2) := dk_16 116 (dk_at dksX8_read_2 0 rfl rfl)
theorem dX8_read_50 : decode cX8_read 50 = .ok (.bipush 115, 2) := dk_16 115 (dk_at dksX8_read_2 2 rfl rfl)
theorem dX8_read_52 : decode cX8_read 52 = .ok (.iconst 0, 1) := dk_3 (dk_at dksX8_read_2 4 rfl rfl)
theorem dX8_read_53 : decode cX8_read 53 = .ok (.iconst 0, 1) := dk_3 (dk_at dksX8_read_2 5 rfl rfl)
theorem dX8_read_54 : decode cX8_read 54 = .ok (.invokevirtual 207, 3) := dk_182 0 207 (dk_at dksX8_read_2 6 rfl rfl)
theorem dX8_read_57 : decode cX8_read 57 = .ok (.invokevirtual 262, 3) := dk_182 1 6 (dk_at dksX8_read_2 9 rfl rfl)
theorem dX8_read_60 : decode cX8_read 60 = .ok (.istore_n 3, 1) := dk_62 (dk_at dksX8_read_2 12 rfl rfl)
theorem dX8_read_61 : decode cX8_read 61 = .ok (.aload_n 0, 1) := dk_42 (dk_at dksX8_read_2 13 rfl rfl)
theorem dX8_read_62 : decode cX8_read 62 = .ok (.getfield 188, 3) := dk_180 0 188 (dk_at dksX8_read_2 14 rfl rfl)
theorem dX8_read_65 : decode cX8_read 65 = .ok (.ifCond .eq 7, 3) := dk_153 0 7 (dk_at dksX8_read_2 17 rfl rfl)
theorem dX8_read_68 : decode cX8_read 68 = .ok (.iconst 0, 1) := dk_3 (dk_at dksX8_read_2 20 rfl rfl)
theorem dX8_read_69 : decode cX8_read 69 = .ok (.goto 24, 3) := dk_167 0 24 (dk_at dksX8_read_2 21 rfl rfl)
theorem dX8_read_72 : decode cX8_read 72 = .ok (.aload_n 0, 1) := dk_42 (dk_at dksX8_read_3 0 rfl rfl)
theorem dX8_read_73 : decode cX8_read 73 = .ok (.aload_n 0, 1) := dk_42 (dk_at dksX8_read_3 1 rfl rfl)
theorem dX8_read_74 : decode cX8_read 74 = .ok (.bipush 99, 2) := dk_16 99 (dk_at dksX8_read_3 2 rfl rfl)
theorem dX8_read_76 : decode cX8_read 76 = .ok (.bipush 111, 2) := dk_16 111 (dk_at dksX8_read_3 4 rfl rfl)
theorem dX8_read_78 : decode cX8_read 78 = .ok (.bipush 115, 2) := dk_16 115 (dk_at dksX8_read_3 6 rfl rfl)
theorem dX8_read_80 : decode cX8_read 80 = .ok (.bipush 116, 2) := dk_16 116 (dk_at dksX8_read_3 8 rfl rfl)
theorem dX8_read_82 : decode cX8_read 82 = .ok (.bipush 115, 2) := dk_16 115 (dk_at dksX8_read_3 10 rfl rfl)
theorem dX8_read_84 : decode cX8_read 84 = .ok (.iconst 0, 1) := dk_3 (dk_at dksX8_read_3 12 rfl rfl)
theorem dX8_read_85 : decode cX8_read 85 = .ok (.iconst 0, 1) := dk_3 (dk_at dksX8_read_3 13 rfl rfl)
theorem dX8_read_86 : decode cX8_read 86 = .ok (.iconst 0, 1) := dk_3 (dk_at dksX8_read_3 14 rfl rfl)
theorem dX8_read_87 : decode cX8_read 87 = .ok (.invokevirtual 207, 3) := dk_182 0 207 (dk_at dksX8_read_3 15 rfl rfl)
theorem dX8_read_90 : decode cX8_read 90 = .ok (.invokevirtual 262, 3) := dk_182 1 6 (dk_at dksX8_read_3 18 rfl rfl)
theorem dX8_read_93 : decode cX8_read 93 = .ok (.istore 4, 2) := dk_54 4 (dk_at dksX8_read_3 21 rfl rfl)
theorem dX8_read_95 : decode cX8_read 95 = .ok (.aload_n 0, 1) := dk_42 (dk_at dksX8_read_3 23 rfl rfl)
theorem dX8_read_96 : decode cX8_read 96 = .ok (.getfield 188, 3) := dk_180 0 188 (dk_at dksX8_read_4 0 rfl rfl)
theorem dX8_read_99 : decode cX8_read 99 = .ok (.ifCond .eq 7, 3) := dk_153 0 7 (dk_at dksX8_read_4 3 rfl rfl)
theorem dX8_read_102 : decode cX8_read 102 = .ok (.iconst 0, 1) := dk_3 (dk_at dksX8_read_4 6 rfl rfl)
theorem dX8_read_103 : decode cX8_read 103 = .ok (.goto 27, 3) := dk_167 0 27 (dk_at dksX8_read_4 7 rfl rfl)
theorem dX8_read_106 : decode cX8_read 106 = .ok (.aload_n 0, 1) := dk_42 (dk_at dksX8_read_4 10 rfl rfl)
theorem dX8_read_107 : decode cX8_read 107 = .ok (.aload_n 0, 1) := dk_42 (dk_at dksX8_read_4 11 rfl rfl)
theorem dX8_read_108 : decode cX8_read 108 = .ok (.bipush 113, 2) := dk_16 113 (dk_at dksX8_read_4 12 rfl rfl)
theorem dX8_read_110 : decode cX8_read 110 = .ok (.bipush 117, 2) := dk_16 117 (dk_at dksX8_read_4 14 rfl rfl)
theorem dX8_read_112 : decode cX8_read 112 = .ok (.bipush 97, 2) := dk_16 97 (dk_at dksX8_read_4 16 rfl rfl)
theorem dX8_read_114 : decode cX8_read 114 = .ok (.bipush 114, 2) := dk_16 114 (dk_at dksX8_read_4 18 rfl rfl)
theorem dX8_read_116 : decode cX8_read 116 = .ok (.bipush 114, 2) := dk_16 114 (dk_at dksX8_read_4 20 rfl rfl)
theorem dX8_read_118 : decode cX8_read 118 = .ok (.bipush 101, 2) := dk_16 101 (dk_at dksX8_read_4 22 rfl rfl)
theorem dX8_read_120 : decode cX8_read 120 = .ok (.bipush 108, 2) := dk_16 108 (dk_at dksX8_read_5 0 rfl rfl)
theorem dX8_read_122 : decode cX8_read 122 = .ok (.bipush 115, 2) := dk_16 115 (dk_at dksX8_read_5 2 rfl rfl)
theorem dX8_read_124 : decode cX8_read 124 = .ok (.invokevirtual 207, 3) := dk_182 0 207 (dk_at dksX8_read_5 4 rfl rfl)
theorem dX8_read_127 : decode cX8_read 127 = .ok (.invokevirtual 262, 3) := dk_182 1 6 (dk_at dksX8_read_5 7 rfl rfl)
theorem dX8_read_130 : decode cX8_read 130 = .ok (.istore 5, 2) := dk_54 5 (dk_at dksX8_read_5 10 rfl rfl)
theorem dX8_read_132 : decode cX8_read 132 = .ok (.aload_n 0, 1) := dk_42 (dk_at dksX8_read_5 12 rfl rfl)
theorem dX8_read_133 : decode cX8_read 133 = .ok (.getfield 188, 3) := dk_180 0 188 (dk_at dksX8_read_5 13 rfl rfl)
theorem dX8_read_136 : decode cX8_read 136 = .ok (.ifCond .ne 14, 3) := dk_154 0 14 (dk_at dksX8_read_5 16 rfl rfl)
theorem dX8_read_139 : decode cX8_read 139 = .ok (.aload_n 0, 1) := dk_42 (dk_at dksX8_read_5 19 rfl rfl)
theorem dX8_read_140 : decode cX8_read 140 = .ok (.getfield 171, 3) := dk_180 0 171 (dk_at dksX8_read_5 20 rfl rfl)
theorem dX8_read_143 : decode cX8_read 143 = .ok (.ifCond .eq 7, 3) := dk_153 0 7 (dk_at dksX8_read_6 0 rfl rfl)
theorem dX8_read_146 : decode cX8_read 146 = .ok (.aload_n 0, 1) := dk_42 (dk_at dksX8_read_6 3 rfl rfl)
theorem dX8_read_147 : decode cX8_read 147 = .ok (.invokevirtual 201, 3) := dk_182 0 201 (dk_at dksX8_read_6 4 rfl rfl)
theorem dX8_read_150 : decode cX8_read 150 = .ok (.iload_n 2, 1) := dk_28 (dk_at dksX8_read_6 7 rfl rfl)
theorem dX8_read_151 : decode cX8_read 151 = .ok (.ifCond .ne 7, 3) := dk_154 0 7 (dk_at dksX8_read_6 8 rfl rfl)
theorem dX8_read_154 : decode cX8_read 154 = .ok (.iload_n 3, 1) := dk_29 (dk_at dksX8_read_6 11 rfl rfl)
theorem dX8_read_155 : decode cX8_read 155 = .ok (.goto 15, 3) := dk_167 0 15 (dk_at dksX8_read_6 12 rfl rfl)
theorem dX8_read_158 : decode cX8_read 158 = .ok (.iload_n 2, 1) := dk_28 (dk_at dksX8_read_6 15 rfl rfl)
theorem dX8_read_159 : decode cX8_read 159 = .ok (.iconst 1, 1) := dk_4 (dk_at dksX8_read_6 16 rfl rfl)
theorem dX8_read_160 : decode cX8_read 160 = .ok (.if_icmp .ne 8, 3) := dk_160 0 8 (dk_at dksX8_read_6 17 rfl rfl)
theorem dX8_read_163 : decode cX8_read 163 = .ok (.iload 4, 2) := dk_21 4 (dk_at dksX8_read_6 20 rfl rfl)
theorem dX8_read_165 : decode cX8_read 165 = .ok (.goto 5, 3) := dk_167 0 5 (dk_at dksX8_read_7 0 rfl rfl)
theorem dX8_read_168 : decode cX8_read 168 = .ok (.iload 5, 2) := dk_21 5 (dk_at dksX8_read_7 3 rfl rfl)
theorem dX8_read_170 : decode cX8_read 170 = .ok (.ireturn, 1) := dk_172 (dk_at dksX8_read_7 5 rfl rfl)
abbrev cX8_next : ByteArray := prog_16_method_20_code
def yX8_next : MethodName := ⟨RX8, "next", "()V"⟩
def dkwX8_next_13 : List UInt8 := [181, 0, 171, 42, 27, 133, 181, 0, 182, 42, 89, 180, 0, 162, 4, 96, 181, 0, 162, 177]
abbrev dktX8_next_13 : List UInt8 := dkwX8_next_13 ++ []
def dkwX8_next_12 : List UInt8 := [159, 0, 21, 27, 16, 42, 159, 0, 15, 27, 16, 60, 159, 0, 9, 27, 16, 61, 160, 0, 24, 42, 6]
abbrev dktX8_next_12 : List UInt8 := dkwX8_next_12 ++ dktX8_next_13
def dkwX8_next_11 : List UInt8 := [159, 0, 45, 27, 16, 41, 159, 0, 39, 27, 16, 59, 159, 0, 33, 27, 16, 43, 159, 0, 27, 27, 16, 45]
abbrev dktX8_next_11 : List UInt8 := dkwX8_next_11 ++ dktX8_next_12
def dkwX8_next_10 : List UInt8 := [167, 255, 184, 42, 28, 7, 164, 0, 7, 7, 167, 0, 4, 5, 181, 0, 171, 167, 0, 72, 27, 16, 40]
abbrev dktX8_next_10 : List UInt8 := dkwX8_next_10 ++ dktX8_next_11
def dkwX8_next_9 : List UInt8 := [167, 0, 7, 42, 180, 0, 182, 181, 0, 182, 132, 2, 1, 42, 89, 180, 0, 162, 4, 96, 181, 0, 162]
abbrev dktX8_next_9 : List UInt8 := dkwX8_next_9 ++ dktX8_next_10
def dkwX8_next_8 : List UInt8 := [20, 0, 186, 42, 180, 0, 182, 105, 42, 42, 180, 0, 162, 182, 0, 165, 133, 97, 20, 0, 178, 101]
abbrev dktX8_next_8 : List UInt8 := dkwX8_next_8 ++ dktX8_next_9
def dkwX8_next_7 : List UInt8 := [182, 0, 165, 133, 20, 0, 178, 20, 0, 180, 184, 0, 88, 153, 0, 57, 42, 28, 7, 162, 0, 28]
abbrev dktX8_next_7 : List UInt8 := dkwX8_next_7 ++ dktX8_next_8
def dkwX8_next_6 : List UInt8 := [184, 0, 88, 153, 0, 107, 42, 5, 181, 0, 171, 42, 9, 181, 0, 182, 3, 61, 42, 42, 180, 0, 162]
abbrev dktX8_next_6 : List UInt8 := dkwX8_next_6 ++ dktX8_next_7
def dkwX8_next_5 : List UInt8 := [153, 0, 203, 42, 89, 180, 0, 162, 4, 96, 181, 0, 162, 167, 255, 225, 27, 133, 20, 0, 178, 20, 0, 180]
abbrev dktX8_next_5 : List UInt8 := dkwX8_next_5 ++ dktX8_next_6
def dkwX8_next_4 : List UInt8 := [42, 4, 181, 0, 171, 42, 42, 180, 0, 162, 182, 0, 165, 133, 20, 0, 174, 20, 0, 176, 184, 0, 88]
abbrev dktX8_next_4 : List UInt8 := dkwX8_next_4 ++ dktX8_next_5
def dkwX8_next_3 : List UInt8 := [42, 180, 0, 156, 181, 0, 168, 167, 0, 243, 27, 133, 20, 0, 174, 20, 0, 176, 184, 0, 88, 153, 0, 42]
abbrev dktX8_next_3 : List UInt8 := dkwX8_next_3 ++ dktX8_next_4
def dkwX8_next_2 : List UInt8 := [42, 42, 180, 0, 162, 182, 0, 165, 60, 42, 7, 181, 0, 171, 27, 156, 0, 19, 42, 3, 181, 0, 171, 42]
abbrev dktX8_next_2 : List UInt8 := dkwX8_next_2 ++ dktX8_next_3
def dkwX8_next_1 : List UInt8 := [160, 0, 16, 42, 89, 180, 0, 162, 4, 96, 181, 0, 162, 167, 255, 220, 42, 42, 180, 0, 162, 181, 0, 168]
abbrev dktX8_next_1 : List UInt8 := dkwX8_next_1 ++ dktX8_next_2
def dkwX8_next_0 : List UInt8 := [42, 42, 180, 0, 162, 182, 0, 165, 16, 32, 159, 0, 16, 42, 42, 180, 0, 162, 182, 0, 165, 16, 10]
abbrev dktX8_next_0 : List UInt8 := dkwX8_next_0 ++ dktX8_next_1
theorem dksX8_next_0 : cX8_next.data.toList.drop 0 = dktX8_next_0 := by decide +kernel
theorem dksX8_next_1 : cX8_next.data.toList.drop 23 = dktX8_next_1 := dk_seg dksX8_next_0 23 rfl rfl
theorem dksX8_next_2 : cX8_next.data.toList.drop 47 = dktX8_next_2 := dk_seg dksX8_next_1 24 rfl rfl
theorem dksX8_next_3 : cX8_next.data.toList.drop 71 = dktX8_next_3 := dk_seg dksX8_next_2 24 rfl rfl
theorem dksX8_next_4 : cX8_next.data.toList.drop 95 = dktX8_next_4 := dk_seg dksX8_next_3 24 rfl rfl
theorem dksX8_next_5 : cX8_next.data.toList.drop 118 = dktX8_next_5 := dk_seg dksX8_next_4 23 rfl rfl
theorem dksX8_next_6 : cX8_next.data.toList.drop 142 = dktX8_next_6 := dk_seg dksX8_next_5 24 rfl rfl
theorem dksX8_next_7 : cX8_next.data.toList.drop 165 = dktX8_next_7 := dk_seg dksX8_next_6 23 rfl rfl
theorem dksX8_next_8 : cX8_next.data.toList.drop 187 = dktX8_next_8 := dk_seg dksX8_next_7 22 rfl rfl
theorem dksX8_next_9 : cX8_next.data.toList.drop 209 = dktX8_next_9 := dk_seg dksX8_next_8 22 rfl rfl
theorem dksX8_next_10 : cX8_next.data.toList.drop 232 = dktX8_next_10 := dk_seg dksX8_next_9 23 rfl rfl
theorem dksX8_next_11 : cX8_next.data.toList.drop 255 = dktX8_next_11 := dk_seg dksX8_next_10 23 rfl rfl
theorem dksX8_next_12 : cX8_next.data.toList.drop 279 = dktX8_next_12 := dk_seg dksX8_next_11 24 rfl rfl
theorem dksX8_next_13 : cX8_next.data.toList.drop 302 = dktX8_next_13 := dk_seg dksX8_next_12 23 rfl rfl
theorem dX8_next_0 : decode cX8_next 0 = .ok (.aload_n 0, 1) := dk_42 (dk_at dksX8_next_0 0 rfl rfl)
theorem dX8_next_1 : decode cX8_next 1 = .ok (.aload_n 0, 1) := dk_42 (dk_at dksX8_next_0 1 rfl rfl)
theorem dX8_next_2 : decode cX8_next 2 = .ok (.getfield 162, 3) := dk_180 0 162 (dk_at dksX8_next_0 2 rfl rfl)
theorem dX8_next_5 : decode cX8_next 5 = .ok (.invokevirtual 165, 3) := dk_182 0 165 (dk_at dksX8_next_0 5 rfl rfl)
theorem dX8_next_8 : decode cX8_next 8 = .ok (.bipush 32, 2) := dk_16 32 (dk_at dksX8_next_0 8 rfl rfl)
theorem dX8_next_10 : decode cX8_next 10 = .ok (.if_icmp .eq 16, 3) := dk_159 0 16 (dk_at dksX8_next_0 10 rfl rfl)
theorem dX8_next_13 : decode cX8_next 13 = .ok (.aload_n 0, 1) := dk_42 (dk_at dksX8_next_0 13 rfl rfl)
theorem dX8_next_14 : decode cX8_next 14 = .ok (.aload_n 0, 1) := dk_42 (dk_at dksX8_next_0 14 rfl rfl)
theorem dX8_next_15 : decode cX8_next 15 = .ok (.getfield 162, 3) := dk_180 0 162 (dk_at dksX8_next_0 15 rfl rfl)
theorem dX8_next_18 : decode cX8_next 18 = .ok (.invokevirtual 165, 3) := dk_182 0 165 (dk_at dksX8_next_0 18 rfl rfl)
theorem dX8_next_21 : decode cX8_next 21 = .ok (.bipush 10, 2) := dk_16 10 (dk_at dksX8_next_0 21 rfl rfl)
theorem dX8_next_23 : decode cX8_next 23 = .ok (.if_icmp .ne 16, 3) := dk_160 0 16 (dk_at dksX8_next_1 0 rfl rfl)
theorem dX8_next_26 : decode cX8_next 26 = .ok (.aload_n 0, 1) := dk_42 (dk_at dksX8_next_1 3 rfl rfl)
theorem dX8_next_27 : decode cX8_next 27 = .ok (.dup, 1) := dk_89 (dk_at dksX8_next_1 4 rfl rfl)
theorem dX8_next_28 : decode cX8_next 28 = .ok (.getfield 162, 3) := dk_180 0 162 (dk_at dksX8_next_1 5 rfl rfl)
theorem dX8_next_31 : decode cX8_next 31 = .ok (.iconst 1, 1) := dk_4 (dk_at dksX8_next_1 8 rfl rfl)
theorem dX8_next_32 : decode cX8_next 32 = .ok (.iadd, 1) := dk_96 (dk_at dksX8_next_1 9 rfl rfl)
theorem dX8_next_33 : decode cX8_next 33 = .ok (.putfield 162, 3) := dk_181 0 162 (dk_at dksX8_next_1 10 rfl rfl)
theorem dX8_next_36 : decode cX8_next 36 = .ok (.goto (-36), 3) := dk_167 255 220 (dk_at dksX8_next_1 13 rfl rfl)
theorem dX8_next_39 : decode cX8_next 39 = .ok (.aload_n 0, 1) := dk_42 (dk_at dksX8_next_1 16 rfl rfl)
theorem dX8_next_40 : decode cX8_next 40 = .ok (.aload_n 0, 1) := dk_42 (dk_at dksX8_next_1 17 rfl rfl)
theorem dX8_next_41 : decode cX8_next 41 = .ok (.getfield 162, 3) := dk_180 0 162 (dk_at dksX8_next_1 18 rfl rfl)
theorem dX8_next_44 : decode cX8_next 44 = .ok (.putfield 168, 3) := dk_181 0 168 (dk_at dksX8_next_1 21 rfl rfl)
theorem dX8_next_47 : decode cX8_next 47 = .ok (.aload_n 0, 1) := dk_42 (dk_at dksX8_next_2 0 rfl rfl)
theorem dX8_next_48 : decode cX8_next 48 = .ok (.aload_n 0, 1) := dk_42 (dk_at dksX8_next_2 1 rfl rfl)
theorem dX8_next_49 : decode cX8_next 49 = .ok (.getfield 162, 3) := dk_180 0 162 (dk_at dksX8_next_2 2 rfl rfl)
theorem dX8_next_52 : decode cX8_next 52 = .ok (.invokevirtual 165, 3) := dk_182 0 165 (dk_at dksX8_next_2 5 rfl rfl)
theorem dX8_next_55 : decode cX8_next 55 = .ok (.istore_n 1, 1) := dk_60 (dk_at dksX8_next_2 8 rfl rfl)
theorem dX8_next_56 : decode cX8_next 56 = .ok (.aload_n 0, 1) := dk_42 (dk_at dksX8_next_2 9 rfl rfl)
theorem dX8_next_57 : decode cX8_next 57 = .ok (.iconst 4, 1) := dk_7 (dk_at dksX8_next_2 10 rfl rfl)
theorem dX8_next_58 : decode cX8_next 58 = .ok (.putfield 171, 3) := dk_181 0 171 (dk_at dksX8_next_2 11 rfl rfl)
theorem dX8_next_61 : decode cX8_next 61 = .ok (.iload_n 1, 1) := dk_27 (dk_at dksX8_next_2 14 rfl rfl)
theorem dX8_next_62 : decode cX8_next 62 = .ok (.ifCond .ge 19, 3) := dk_156 0 19 (dk_at dksX8_next_2 15 rfl rfl)
theorem dX8_next_65 : decode cX8_next 65 = .ok (.aload_n 0, 1) := dk_42 (dk_at dksX8_next_2 18 rfl rfl)
theorem dX8_next_66 : decode cX8_next 66 = .ok (.iconst 0, 1) := dk_3 (dk_at dksX8_next_2 19 rfl rfl)
theorem dX8_next_67 : decode cX8_next 67 = .ok (.putfield 171, 3) := dk_181 0 171 (dk_at dksX8_next_2 20 rfl rfl)
theorem dX8_next_70 : decode cX8_next 70 = .ok (.aload_n 0, 1) := dk_42 (dk_at dksX8_next_2 23 rfl rfl)
theorem dX8_next_71 : decode cX8_next 71 = .ok (.aload_n 0, 1) := dk_42 (dk_at dksX8_next_3 0 rfl rfl)
theorem dX8_next_72 : decode cX8_next 72 = .ok (.getfield 156, 3) := dk_180 0 156 (dk_at dksX8_next_3 1 rfl rfl)
theorem dX8_next_75 : decode cX8_next 75 = .ok (.putfield 168, 3) := dk_181 0 168 (dk_at dksX8_next_3 4 rfl rfl)
theorem dX8_next_78 : decode cX8_next 78 = .ok (.goto 243, 3) := dk_167 0 243 (dk_at dksX8_next_3 7 rfl rfl)
theorem dX8_next_81 : decode cX8_next 81 = .ok (.iload_n 1, 1) := dk_27 (dk_at dksX8_next_3 10 rfl rfl)
theorem dX8_next_82 : decode cX8_next 82 = .ok (.i2l, 1) := dk_133 (dk_at dksX8_next_3 11 rfl rfl)
theorem dX8_next_83 : decode cX8_next 83 = .ok (.ldc2_w 174, 3) := dk_20 0 174 (dk_at dksX8_next_3 12 rfl rfl)
theorem dX8_next_86 : decode cX8_next 86 = .ok (.ldc2_w 176, 3) := dk_20 0 176 (dk_at dksX8_next_3 15 rfl rfl)
theorem dX8_next_89 : decode cX8_next 89 = .ok (.invokestatic 88, 3) := dk_184 0 88 (dk_at dksX8_next_3 18 rfl rfl)
theorem dX8_next_92 : decode cX8_next 92 = .ok (.ifCond .eq 42, 3) := dk_153 0 42 (dk_at dksX8_next_3 21 rfl rfl)
theorem dX8_next_95 : decode cX8_next 95 = .ok (.aload_n 0, 1) := dk_42 (dk_at dksX8_next_4 0 rfl rfl)
theorem dX8_next_96 : decode cX8_next 96 = .ok (.iconst 1, 1) := dk_4 (dk_at dksX8_next_4 1 rfl rfl)
theorem dX8_next_97 : decode cX8_next 97 = .ok (.putfield 171, 3) := dk_181 0 171 (dk_at dksX8_next_4 2 rfl rfl)
theorem dX8_next_100 : decode cX8_next 100 = .ok (.aload_n 0, 1) := dk_42 (dk_at dksX8_next_4 5 rfl rfl)
theorem dX8_next_101 : decode cX8_next 101 = .ok (.aload_n 0, 1) := dk_42 (dk_at dksX8_next_4 6 rfl rfl)
theorem dX8_next_102 : decode cX8_next 102 = .ok (.getfield 162, 3) := dk_180 0 162 (dk_at dksX8_next_4 7 rfl rfl)
theorem dX8_next_105 : decode cX8_next 105 = .ok (.invokevirtual 165, 3) := dk_182 0 165 (dk_at dksX8_next_4 10 rfl rfl)
theorem dX8_next_108 : decode cX8_next 108 = .ok (.i2l, 1) := dk_133 (dk_at dksX8_next_4 13 rfl rfl)
theorem dX8_next_109 : decode cX8_next 109 = .ok (.ldc2_w 174, 3) := dk_20 0 174 (dk_at dksX8_next_4 14 rfl rfl)
theorem dX8_next_112 : decode cX8_next 112 = .ok (.ldc2_w 176, 3) := dk_20 0 176 (dk_at dksX8_next_4 17 rfl rfl)
theorem dX8_next_115 : decode cX8_next 115 = .ok (.invokestatic 88, 3) := dk_184 0 88 (dk_at dksX8_next_4 20 rfl rfl)
theorem dX8_next_118 : decode cX8_next 118 = .ok (.ifCond .eq 203, 3) := dk_153 0 203 (dk_at dksX8_next_5 0 rfl rfl)
theorem dX8_next_121 : decode cX8_next 121 = .ok (.aload_n 0, 1) := dk_42 (dk_at dksX8_next_5 3 rfl rfl)
theorem dX8_next_122 : decode cX8_next 122 = .ok (.dup, 1) := dk_89 (dk_at dksX8_next_5 4 rfl rfl)
theorem dX8_next_123 : decode cX8_next 123 = .ok (.getfield 162, 3) := dk_180 0 162 (dk_at dksX8_next_5 5 rfl rfl)
theorem dX8_next_126 : decode cX8_next 126 = .ok (.iconst 1, 1) := dk_4 (dk_at dksX8_next_5 8 rfl rfl)
theorem dX8_next_127 : decode cX8_next 127 = .ok (.iadd, 1) := dk_96 (dk_at dksX8_next_5 9 rfl rfl)
theorem dX8_next_128 : decode cX8_next 128 = .ok (.putfield 162, 3) := dk_181 0 162 (dk_at dksX8_next_5 10 rfl rfl)
theorem dX8_next_131 : decode cX8_next 131 = .ok (.goto (-31), 3) := dk_167 255 225 (dk_at dksX8_next_5 13 rfl rfl)
theorem dX8_next_134 : decode cX8_next 134 = .ok (.iload_n 1, 1) := dk_27 (dk_at dksX8_next_5 16 rfl rfl)
theorem dX8_next_135 : decode cX8_next 135 = .ok (.i2l, 1) := dk_133 (dk_at dksX8_next_5 17 rfl rfl)
theorem dX8_next_136 : decode cX8_next 136 = .ok (.ldc2_w 178, 3) := dk_20 0 178 (dk_at dksX8_next_5 18 rfl rfl)
theorem dX8_next_139 : decode cX8_next 139 = .ok (.ldc2_w 180, 3) := dk_20 0 180 (dk_at dksX8_next_5 21 rfl rfl)
theorem dX8_next_142 : decode cX8_next 142 = .ok (.invokestatic 88, 3) := dk_184 0 88 (dk_at dksX8_next_6 0 rfl rfl)
theorem dX8_next_145 : decode cX8_next 145 = .ok (.ifCond .eq 107, 3) := dk_153 0 107 (dk_at dksX8_next_6 3 rfl rfl)
theorem dX8_next_148 : decode cX8_next 148 = .ok (.aload_n 0, 1) := dk_42 (dk_at dksX8_next_6 6 rfl rfl)
theorem dX8_next_149 : decode cX8_next 149 = .ok (.iconst 2, 1) := dk_5 (dk_at dksX8_next_6 7 rfl rfl)
theorem dX8_next_150 : decode cX8_next 150 = .ok (.putfield 171, 3) := dk_181 0 171 (dk_at dksX8_next_6 8 rfl rfl)
theorem dX8_next_153 : decode cX8_next 153 = .ok (.aload_n 0, 1) := dk_42 (dk_at dksX8_next_6 11 rfl rfl)
theorem dX8_next_154 : decode cX8_next 154 = .ok (.lconst 0, 1) := dk_9 (dk_at dksX8_next_6 12 rfl rfl)
theorem dX8_next_155 : decode cX8_next 155 = .ok (.putfield 182, 3) := dk_181 0 182 (dk_at dksX8_next_6 13 rfl rfl)
theorem dX8_next_158 : decode cX8_next 158 = .ok (.iconst 0, 1) := dk_3 (dk_at dksX8_next_6 16 rfl rfl)
theorem dX8_next_159 : decode cX8_next 159 = .ok (.istore_n 2, 1) := dk_61 (dk_at dksX8_next_6 17 rfl rfl)
theorem dX8_next_160 : decode cX8_next 160 = .ok (.aload_n 0, 1) := dk_42 (dk_at dksX8_next_6 18 rfl rfl)
theorem dX8_next_161 : decode cX8_next 161 = .ok (.aload_n 0, 1) := dk_42 (dk_at dksX8_next_6 19 rfl rfl)
theorem dX8_next_162 : decode cX8_next 162 = .ok (.getfield 162, 3) := dk_180 0 162 (dk_at dksX8_next_6 20 rfl rfl)
theorem dX8_next_165 : decode cX8_next 165 = .ok (.invokevirtual 165, 3) := dk_182 0 165 (dk_at dksX8_next_7 0 rfl rfl)
theorem dX8_next_168 : decode cX8_next 168 = .ok (.i2l, 1) := dk_133 (dk_at dksX8_next_7 3 rfl rfl)
theorem dX8_next_169 : decode cX8_next 169 = .ok (.ldc2_w 178, 3) := dk_20 0 178 (dk_at dksX8_next_7 4 rfl rfl)
theorem dX8_next_172 : decode cX8_next 172 = .ok (.ldc2_w 180, 3) := dk_20 0 180 (dk_at dksX8_next_7 7 rfl rfl)
theorem dX8_next_175 : decode cX8_next 175 = .ok (.invokestatic 88, 3) := dk_184 0 88 (dk_at dksX8_next_7 10 rfl rfl)
theorem dX8_next_178 : decode cX8_next 178 = .ok (.ifCond .eq 57, 3) := dk_153 0 57 (dk_at dksX8_next_7 13 rfl rfl)
theorem dX8_next_181 : decode cX8_next 181 = .ok (.aload_n 0, 1) := dk_42 (dk_at dksX8_next_7 16 rfl rfl)
theorem dX8_next_182 : decode cX8_next 182 = .ok (.iload_n 2, 1) := dk_28 (dk_at dksX8_next_7 17 rfl rfl)
theorem dX8_next_183 : decode cX8_next 183 = .ok (.iconst 4, 1) := dk_7 (dk_at dksX8_next_7 18 rfl rfl)
theorem dX8_next_184 : decode cX8_next 184 = .ok (.if_icmp .ge 28, 3) := dk_162 0 28 (dk_at dksX8_next_7 19 rfl rfl)
theorem dX8_next_187 : decode cX8_next 187 = .ok (.ldc2_w 186, 3) := dk_20 0 186 (dk_at dksX8_next_8 0 rfl rfl)
theorem dX8_next_190 : decode cX8_next 190 = .ok (.aload_n 0, 1) := dk_42 (dk_at dksX8_next_8 3 rfl rfl)
theorem dX8_next_191 : decode cX8_next 191 = .ok (.getfield 182, 3) := dk_180 0 182 (dk_at dksX8_next_8 4 rfl rfl)
theorem dX8_next_194 : decode cX8_next 194 = .ok (.lmul, 1) := dk_105 (dk_at dksX8_next_8 7 rfl rfl)
theorem dX8_next_195 : decode cX8_next 195 = .ok (.aload_n 0, 1) := dk_42 (dk_at dksX8_next_8 8 rfl rfl)
theorem dX8_next_196 : decode cX8_next 196 = .ok (.aload_n 0, 1) := dk_42 (dk_at dksX8_next_8 9 rfl rfl)
theorem dX8_next_197 : decode cX8_next 197 = .ok (.getfield 162, 3) := dk_180 0 162 (dk_at dksX8_next_8 10 rfl rfl)
theorem dX8_next_200 : decode cX8_next 200 = .ok (.invokevirtual 165, 3) := dk_182 0 165 (dk_at dksX8_next_8 13 rfl rfl)
theorem dX8_next_203 : decode cX8_next 203 = .ok (.i2l, 1) := dk_133 (dk_at dksX8_next_8 16 rfl rfl)
theorem dX8_next_204 : decode cX8_next 204 = .ok (.ladd, 1) := dk_97 (dk_at dksX8_next_8 17 rfl rfl)
theorem dX8_next_205 : decode cX8_next 205 = .ok (.ldc2_w 178, 3) := dk_20 0 178 (dk_at dksX8_next_8 18 rfl rfl)
theorem dX8_next_208 : decode cX8_next 208 = .ok (.lsub, 1) := dk_101 (dk_at dksX8_next_8 21 rfl rfl)
theorem dX8_next_209 : decode cX8_next 209 = .ok (.goto 7, 3) := dk_167 0 7 (dk_at dksX8_next_9 0 rfl rfl)
theorem dX8_next_212 : decode cX8_next 212 = .ok (.aload_n 0, 1) := dk_42 (dk_at dksX8_next_9 3 rfl rfl)
theorem dX8_next_213 : decode cX8_next 213 = .ok (.getfield 182, 3) := dk_180 0 182 (dk_at dksX8_next_9 4 rfl rfl)
theorem dX8_next_216 : decode cX8_next 216 = .ok (.putfield 182, 3) := dk_181 0 182 (dk_at dksX8_next_9 7 rfl rfl)
theorem dX8_next_219 : decode cX8_next 219 = .ok (.iinc 2 1, 3) := dk_132 2 1 (dk_at dksX8_next_9 10 rfl rfl)
theorem dX8_next_222 : decode cX8_next 222 = .ok (.aload_n 0, 1) := dk_42 (dk_at dksX8_next_9 13 rfl rfl)
theorem dX8_next_223 : decode cX8_next 223 = .ok (.dup, 1) := dk_89 (dk_at dksX8_next_9 14 rfl rfl)
theorem dX8_next_224 : decode cX8_next 224 = .ok (.getfield 162, 3) := dk_180 0 162 (dk_at dksX8_next_9 15 rfl rfl)
theorem dX8_next_227 : decode cX8_next 227 = .ok (.iconst 1, 1) := dk_4 (dk_at dksX8_next_9 18 rfl rfl)
theorem dX8_next_228 : decode cX8_next 228 = .ok (.iadd, 1) := dk_96 (dk_at dksX8_next_9 19 rfl rfl)
theorem dX8_next_229 : decode cX8_next 229 = .ok (.putfield 162, 3) := dk_181 0 162 (dk_at dksX8_next_9 20 rfl rfl)
theorem dX8_next_232 : decode cX8_next 232 = .ok (.goto (-72), 3) := dk_167 255 184 (dk_at dksX8_next_10 0 rfl rfl)
theorem dX8_next_235 : decode cX8_next 235 = .ok (.aload_n 0, 1) := dk_42 (dk_at dksX8_next_10 3 rfl rfl)
theorem dX8_next_236 : decode cX8_next 236 = .ok (.iload_n 2, 1) := dk_28 (dk_at dksX8_next_10 4 rfl rfl)
theorem dX8_next_237 : decode cX8_next 237 = .ok (.iconst 4, 1) := dk_7 (dk_at dksX8_next_10 5 rfl rfl)
theorem dX8_next_238 : decode cX8_next 238 = .ok (.if_icmp .le 7, 3) := dk_164 0 7 (dk_at dksX8_next_10 6 rfl rfl)
theorem dX8_next_241 : decode cX8_next 241 = .ok (.iconst 4, 1) := dk_7 (dk_at dksX8_next_10 9 rfl rfl)
theorem dX8_next_242 : decode cX8_next 242 = .ok (.goto 4, 3) := dk_167 0 4 (dk_at dksX8_next_10 10 rfl rfl)
theorem dX8_next_245 : decode cX8_next 245 = .ok (.iconst 2, 1) := dk_5 (dk_at dksX8_next_10 13 rfl rfl)
theorem dX8_next_246 : decode cX8_next 246 = .ok (.putfield 171, 3) := dk_181 0 171 (dk_at dksX8_next_10 14 rfl rfl)
theorem dX8_next_249 : decode cX8_next 249 = .ok (.goto 72, 3) := dk_167 0 72 (dk_at dksX8_next_10 17 rfl rfl)
theorem dX8_next_252 : decode cX8_next 252 = .ok (.iload_n 1, 1) := dk_27 (dk_at dksX8_next_10 20 rfl rfl)
theorem dX8_next_253 : decode cX8_next 253 = .ok (.bipush 40, 2) := dk_16 40 (dk_at dksX8_next_10 21 rfl rfl)
theorem dX8_next_255 : decode cX8_next 255 = .ok (.if_icmp .eq 45, 3) := dk_159 0 45 (dk_at dksX8_next_11 0 rfl rfl)
theorem dX8_next_258 : decode cX8_next 258 = .ok (.iload_n 1, 1) := dk_27 (dk_at dksX8_next_11 3 rfl rfl)
theorem dX8_next_259 : decode cX8_next 259 = .ok (.bipush 41, 2) := dk_16 41 (dk_at dksX8_next_11 4 rfl rfl)
theorem dX8_next_261 : decode cX8_next 261 = .ok (.if_icmp .eq 39, 3) := dk_159 0 39 (dk_at dksX8_next_11 6 rfl rfl)
theorem dX8_next_264 : decode cX8_next 264 = .ok (.iload_n 1, 1) := dk_27 (dk_at dksX8_next_11 9 rfl rfl)
theorem dX8_next_265 : decode cX8_next 265 = .ok (.bipush 59, 2) := dk_16 59 (dk_at dksX8_next_11 10 rfl rfl)
theorem dX8_next_267 : decode cX8_next 267 = .ok (.if_icmp .eq 33, 3) := dk_159 0 33 (dk_at dksX8_next_11 12 rfl rfl)
theorem dX8_next_270 : decode cX8_next 270 = .ok (.iload_n 1, 1) := dk_27 (dk_at dksX8_next_11 15 rfl rfl)
theorem dX8_next_271 : decode cX8_next 271 = .ok (.bipush 43, 2) := dk_16 43 (dk_at dksX8_next_11 16 rfl rfl)
theorem dX8_next_273 : decode cX8_next 273 = .ok (.if_icmp .eq 27, 3) := dk_159 0 27 (dk_at dksX8_next_11 18 rfl rfl)
theorem dX8_next_276 : decode cX8_next 276 = .ok (.iload_n 1, 1) := dk_27 (dk_at dksX8_next_11 21 rfl rfl)
theorem dX8_next_277 : decode cX8_next 277 = .ok (.bipush 45, 2) := dk_16 45 (dk_at dksX8_next_11 22 rfl rfl)
theorem dX8_next_279 : decode cX8_next 279 = .ok (.if_icmp .eq 21, 3) := dk_159 0 21 (dk_at dksX8_next_12 0 rfl rfl)
theorem dX8_next_282 : decode cX8_next 282 = .ok (.iload_n 1, 1) := dk_27 (dk_at dksX8_next_12 3 rfl rfl)
theorem dX8_next_283 : decode cX8_next 283 = .ok (.bipush 42, 2) := dk_16 42 (dk_at dksX8_next_12 4 rfl rfl)
theorem dX8_next_285 : decode cX8_next 285 = .ok (.if_icmp .eq 15, 3) := dk_159 0 15 (dk_at dksX8_next_12 6 rfl rfl)
theorem dX8_next_288 : decode cX8_next 288 = .ok (.iload_n 1, 1) := dk_27 (dk_at dksX8_next_12 9 rfl rfl)
theorem dX8_next_289 : decode cX8_next 289 = .ok (.bipush 60, 2) := dk_16 60 (dk_at dksX8_next_12 10 rfl rfl)
theorem dX8_next_291 : decode cX8_next 291 = .ok (.if_icmp .eq 9, 3) := dk_159 0 9 (dk_at dksX8_next_12 12 rfl rfl)
theorem dX8_next_294 : decode cX8_next 294 = .ok (.iload_n 1, 1) := dk_27 (dk_at dksX8_next_12 15 rfl rfl)
theorem dX8_next_295 : decode cX8_next 295 = .ok (.bipush 61, 2) := dk_16 61 (dk_at dksX8_next_12 16 rfl rfl)
theorem dX8_next_297 : decode cX8_next 297 = .ok (.if_icmp .ne 24, 3) := dk_160 0 24 (dk_at dksX8_next_12 18 rfl rfl)
theorem dX8_next_300 : decode cX8_next 300 = .ok (.aload_n 0, 1) := dk_42 (dk_at dksX8_next_12 21 rfl rfl)
theorem dX8_next_301 : decode cX8_next 301 = .ok (.iconst 3, 1) := dk_6 (dk_at dksX8_next_12 22 rfl rfl)
theorem dX8_next_302 : decode cX8_next 302 = .ok (.putfield 171, 3) := dk_181 0 171 (dk_at dksX8_next_13 0 rfl rfl)
theorem dX8_next_305 : decode cX8_next 305 = .ok (.aload_n 0, 1) := dk_42 (dk_at dksX8_next_13 3 rfl rfl)
theorem dX8_next_306 : decode cX8_next 306 = .ok (.iload_n 1, 1) := dk_27 (dk_at dksX8_next_13 4 rfl rfl)
theorem dX8_next_307 : decode cX8_next 307 = .ok (.i2l, 1) := dk_133 (dk_at dksX8_next_13 5 rfl rfl)
theorem dX8_next_308 : decode cX8_next 308 = .ok (.putfield 182, 3) := dk_181 0 182 (dk_at dksX8_next_13 6 rfl rfl)
theorem dX8_next_311 : decode cX8_next 311 = .ok (.aload_n 0, 1) := dk_42 (dk_at dksX8_next_13 9 rfl rfl)
theorem dX8_next_312 : decode cX8_next 312 = .ok (.dup, 1) := dk_89 (dk_at dksX8_next_13 10 rfl rfl)
theorem dX8_next_313 : decode cX8_next 313 = .ok (.getfield 162, 3) := dk_180 0 162 (dk_at dksX8_next_13 11 rfl rfl)
theorem dX8_next_316 : decode cX8_next 316 = .ok (.iconst 1, 1) := dk_4 (dk_at dksX8_next_13 14 rfl rfl)
theorem dX8_next_317 : decode cX8_next 317 = .ok (.iadd, 1) := dk_96 (dk_at dksX8_next_13 15 rfl rfl)
theorem dX8_next_318 : decode cX8_next 318 = .ok (.putfield 162, 3) := dk_181 0 162 (dk_at dksX8_next_13 16 rfl rfl)
theorem dX8_next_321 : decode cX8_next 321 = .ok (.return_, 1) := dk_177 (dk_at dksX8_next_13 19 rfl rfl)
abbrev cX8_byteAt : ByteArray := prog_16_method_19_code
def yX8_byteAt : MethodName := ⟨RX8, "byteAt", "(I)I"⟩
def dkwX8_byteAt_0 : List UInt8 := [27, 42, 180, 0, 156, 162, 0, 17, 42, 180, 0, 13, 42, 180, 0, 159, 27, 96, 46, 167, 0, 4, 2, 172]
abbrev dktX8_byteAt_0 : List UInt8 := dkwX8_byteAt_0 ++ []
theorem dksX8_byteAt_0 : cX8_byteAt.data.toList.drop 0 = dktX8_byteAt_0 := by decide +kernel
theorem dX8_byteAt_0 : decode cX8_byteAt 0 = .ok (.iload_n 1, 1) := dk_27 (dk_at dksX8_byteAt_0 0 rfl rfl)
theorem dX8_byteAt_1 : decode cX8_byteAt 1 = .ok (.aload_n 0, 1) := dk_42 (dk_at dksX8_byteAt_0 1 rfl rfl)
theorem dX8_byteAt_2 : decode cX8_byteAt 2 = .ok (.getfield 156, 3) := dk_180 0 156 (dk_at dksX8_byteAt_0 2 rfl rfl)
theorem dX8_byteAt_5 : decode cX8_byteAt 5 = .ok (.if_icmp .ge 17, 3) := dk_162 0 17 (dk_at dksX8_byteAt_0 5 rfl rfl)
theorem dX8_byteAt_8 : decode cX8_byteAt 8 = .ok (.aload_n 0, 1) := dk_42 (dk_at dksX8_byteAt_0 8 rfl rfl)
theorem dX8_byteAt_9 : decode cX8_byteAt 9 = .ok (.getfield 13, 3) := dk_180 0 13 (dk_at dksX8_byteAt_0 9 rfl rfl)
theorem dX8_byteAt_12 : decode cX8_byteAt 12 = .ok (.aload_n 0, 1) := dk_42 (dk_at dksX8_byteAt_0 12 rfl rfl)
theorem dX8_byteAt_13 : decode cX8_byteAt 13 = .ok (.getfield 159, 3) := dk_180 0 159 (dk_at dksX8_byteAt_0 13 rfl rfl)
theorem dX8_byteAt_16 : decode cX8_byteAt 16 = .ok (.iload_n 1, 1) := dk_27 (dk_at dksX8_byteAt_0 16 rfl rfl)
theorem dX8_byteAt_17 : decode cX8_byteAt 17 = .ok (.iadd, 1) := dk_96 (dk_at dksX8_byteAt_0 17 rfl rfl)
theorem dX8_byteAt_18 : decode cX8_byteAt 18 = .ok (.iaload, 1) := dk_46 (dk_at dksX8_byteAt_0 18 rfl rfl)
theorem dX8_byteAt_19 : decode cX8_byteAt 19 = .ok (.goto 4, 3) := dk_167 0 4 (dk_at dksX8_byteAt_0 19 rfl rfl)
theorem dX8_byteAt_22 : decode cX8_byteAt 22 = .ok (.iconst (-1), 1) := dk_2 (dk_at dksX8_byteAt_0 22 rfl rfl)
theorem dX8_byteAt_23 : decode cX8_byteAt 23 = .ok (.ireturn, 1) := dk_172 (dk_at dksX8_byteAt_0 23 rfl rfl)
abbrev cX8_isWord : ByteArray := prog_16_method_23_code
def yX8_isWord : MethodName := ⟨RX8, "isWord", "(IIIIIIII)Z"⟩
def dkwX8_isWord_4 : List UInt8 := [153, 0, 18, 42, 16, 7, 21, 8, 182, 0, 195, 153, 0, 7, 4, 167, 0, 4, 3, 172]
abbrev dktX8_isWord_4 : List UInt8 := dkwX8_isWord_4 ++ []
def dkwX8_isWord_3 : List UInt8 := [182, 0, 195, 153, 0, 39, 42, 8, 21, 6, 182, 0, 195, 153, 0, 29, 42, 16, 6, 21, 7, 182, 0, 195]
abbrev dktX8_isWord_3 : List UInt8 := dkwX8_isWord_3 ++ dktX8_isWord_4
def dkwX8_isWord_2 : List UInt8 := [42, 5, 29, 182, 0, 195, 153, 0, 59, 42, 6, 21, 4, 182, 0, 195, 153, 0, 49, 42, 7, 21, 5]
abbrev dktX8_isWord_2 : List UInt8 := dkwX8_isWord_2 ++ dktX8_isWord_3
def dkwX8_isWord_1 : List UInt8 := [16, 8, 96, 163, 0, 86, 42, 3, 27, 182, 0, 195, 153, 0, 77, 42, 4, 28, 182, 0, 195, 153, 0, 68]
abbrev dktX8_isWord_1 : List UInt8 := dkwX8_isWord_1 ++ dktX8_isWord_2
def dkwX8_isWord_0 : List UInt8 := [42, 180, 0, 188, 154, 0, 108, 42, 180, 0, 171, 4, 160, 0, 100, 42, 180, 0, 162, 42, 180, 0, 168]
abbrev dktX8_isWord_0 : List UInt8 := dkwX8_isWord_0 ++ dktX8_isWord_1
theorem dksX8_isWord_0 : cX8_isWord.data.toList.drop 0 = dktX8_isWord_0 := by decide +kernel
theorem dksX8_isWord_1 : cX8_isWord.data.toList.drop 23 = dktX8_isWord_1 := dk_seg dksX8_isWord_0 23 rfl rfl
theorem dksX8_isWord_2 : cX8_isWord.data.toList.drop 47 = dktX8_isWord_2 := dk_seg dksX8_isWord_1 24 rfl rfl
theorem dksX8_isWord_3 : cX8_isWord.data.toList.drop 70 = dktX8_isWord_3 := dk_seg dksX8_isWord_2 23 rfl rfl
theorem dksX8_isWord_4 : cX8_isWord.data.toList.drop 94 = dktX8_isWord_4 := dk_seg dksX8_isWord_3 24 rfl rfl
theorem dX8_isWord_0 : decode cX8_isWord 0 = .ok (.aload_n 0, 1) := dk_42 (dk_at dksX8_isWord_0 0 rfl rfl)
theorem dX8_isWord_1 : decode cX8_isWord 1 = .ok (.getfield 188, 3) := dk_180 0 188 (dk_at dksX8_isWord_0 1 rfl rfl)
theorem dX8_isWord_4 : decode cX8_isWord 4 = .ok (.ifCond .ne 108, 3) := dk_154 0 108 (dk_at dksX8_isWord_0 4 rfl rfl)
theorem dX8_isWord_7 : decode cX8_isWord 7 = .ok (.aload_n 0, 1) := dk_42 (dk_at dksX8_isWord_0 7 rfl rfl)
theorem dX8_isWord_8 : decode cX8_isWord 8 = .ok (.getfield 171, 3) := dk_180 0 171 (dk_at dksX8_isWord_0 8 rfl rfl)
theorem dX8_isWord_11 : decode cX8_isWord 11 = .ok (.iconst 1, 1) := dk_4 (dk_at dksX8_isWord_0 11 rfl rfl)
theorem dX8_isWord_12 : decode cX8_isWord 12 = .ok (.if_icmp .ne 100, 3) := dk_160 0 100 (dk_at dksX8_isWord_0 12 rfl rfl)
theorem dX8_isWord_15 : decode cX8_isWord 15 = .ok (.aload_n 0, 1) := dk_42 (dk_at dksX8_isWord_0 15 rfl rfl)
theorem dX8_isWord_16 : decode cX8_isWord 16 = .ok (.getfield 162, 3) := dk_180 0 162 (dk_at dksX8_isWord_0 16 rfl rfl)
theorem dX8_isWord_19 : decode cX8_isWord 19 = .ok (.aload_n 0, 1) := dk_42 (dk_at dksX8_isWord_0 19 rfl rfl)
theorem dX8_isWord_20 : decode cX8_isWord 20 = .ok (.getfield 168, 3) := dk_180 0 168 (dk_at dksX8_isWord_0 20 rfl rfl)
theorem dX8_isWord_23 : decode cX8_isWord 23 = .ok (.bipush 8, 2) := dk_16 8 (dk_at dksX8_isWord_1 0 rfl rfl)
theorem dX8_isWord_25 : decode cX8_isWord 25 = .ok (.iadd, 1) := dk_96 (dk_at dksX8_isWord_1 2 rfl rfl)
theorem dX8_isWord_26 : decode cX8_isWord 26 = .ok (.if_icmp .gt 86, 3) := dk_163 0 86 (dk_at dksX8_isWord_1 3 rfl rfl)
theorem dX8_isWord_29 : decode cX8_isWord 29 = .ok (.aload_n 0, 1) := dk_42 (dk_at dksX8_isWord_1 6 rfl rfl)
theorem dX8_isWord_30 : decode cX8_isWord 30 = .ok (.iconst 0, 1) := dk_3 (dk_at dksX8_isWord_1 7 rfl rfl)
theorem dX8_isWord_31 : decode cX8_isWord 31 = .ok (.iload_n 1, 1) := dk_27 (dk_at dksX8_isWord_1 8 rfl rfl)
theorem dX8_isWord_32 : decode cX8_isWord 32 = .ok (.invokevirtual 195, 3) := dk_182 0 195 (dk_at dksX8_isWord_1 9 rfl rfl)
theorem dX8_isWord_35 : decode cX8_isWord 35 = .ok (.ifCond .eq 77, 3) := dk_153 0 77 (dk_at dksX8_isWord_1 12 rfl rfl)
theorem dX8_isWord_38 : decode cX8_isWord 38 = .ok (.aload_n 0, 1) := dk_42 (dk_at dksX8_isWord_1 15 rfl rfl)
theorem dX8_isWord_39 : decode cX8_isWord 39 = .ok (.iconst 1, 1) := dk_4 (dk_at dksX8_isWord_1 16 rfl rfl)
theorem dX8_isWord_40 : decode cX8_isWord 40 = .ok (.iload_n 2, 1) := dk_28 (dk_at dksX8_isWord_1 17 rfl rfl)
theorem dX8_isWord_41 : decode cX8_isWord 41 = .ok (.invokevirtual 195, 3) := dk_182 0 195 (dk_at dksX8_isWord_1 18 rfl rfl)
theorem dX8_isWord_44 : decode cX8_isWord 44 = .ok (.ifCond .eq 68, 3) := dk_153 0 68 (dk_at dksX8_isWord_1 21 rfl rfl)
theorem dX8_isWord_47 : decode cX8_isWord 47 = .ok (.aload_n 0, 1) := dk_42 (dk_at dksX8_isWord_2 0 rfl rfl)
theorem dX8_isWord_48 : decode cX8_isWord 48 = .ok (.iconst 2, 1) := dk_5 (dk_at dksX8_isWord_2 1 rfl rfl)
theorem dX8_isWord_49 : decode cX8_isWord 49 = .ok (.iload_n 3, 1) := dk_29 (dk_at dksX8_isWord_2 2 rfl rfl)
theorem dX8_isWord_50 : decode cX8_isWord 50 = .ok (.invokevirtual 195, 3) := dk_182 0 195 (dk_at dksX8_isWord_2 3 rfl rfl)
theorem dX8_isWord_53 : decode cX8_isWord 53 = .ok (.ifCond .eq 59, 3) := dk_153 0 59 (dk_at dksX8_isWord_2 6 rfl rfl)
theorem dX8_isWord_56 : decode cX8_isWord 56 = .ok (.aload_n 0, 1) := dk_42 (dk_at dksX8_isWord_2 9 rfl rfl)
theorem dX8_isWord_57 : decode cX8_isWord 57 = .ok (.iconst 3, 1) := dk_6 (dk_at dksX8_isWord_2 10 rfl rfl)
theorem dX8_isWord_58 : decode cX8_isWord 58 = .ok (.iload 4, 2) := dk_21 4 (dk_at dksX8_isWord_2 11 rfl rfl)
theorem dX8_isWord_60 : decode cX8_isWord 60 = .ok (.invokevirtual 195, 3) := dk_182 0 195 (dk_at dksX8_isWord_2 13 rfl rfl)
theorem dX8_isWord_63 : decode cX8_isWord 63 = .ok (.ifCond .eq 49, 3) := dk_153 0 49 (dk_at dksX8_isWord_2 16 rfl rfl)
theorem dX8_isWord_66 : decode cX8_isWord 66 = .ok (.aload_n 0, 1) := dk_42 (dk_at dksX8_isWord_2 19 rfl rfl)
theorem dX8_isWord_67 : decode cX8_isWord 67 = .ok (.iconst 4, 1) := dk_7 (dk_at dksX8_isWord_2 20 rfl rfl)
theorem dX8_isWord_68 : decode cX8_isWord 68 = .ok (.iload 5, 2) := dk_21 5 (dk_at dksX8_isWord_2 21 rfl rfl)
theorem dX8_isWord_70 : decode cX8_isWord 70 = .ok (.invokevirtual 195, 3) := dk_182 0 195 (dk_at dksX8_isWord_3 0 rfl rfl)
theorem dX8_isWord_73 : decode cX8_isWord 73 = .ok (.ifCond .eq 39, 3) := dk_153 0 39 (dk_at dksX8_isWord_3 3 rfl rfl)
theorem dX8_isWord_76 : decode cX8_isWord 76 = .ok (.aload_n 0, 1) := dk_42 (dk_at dksX8_isWord_3 6 rfl rfl)
theorem dX8_isWord_77 : decode cX8_isWord 77 = .ok (.iconst 5, 1) := dk_8 (dk_at dksX8_isWord_3 7 rfl rfl)
theorem dX8_isWord_78 : decode cX8_isWord 78 = .ok (.iload 6, 2) := dk_21 6 (dk_at dksX8_isWord_3 8 rfl rfl)
theorem dX8_isWord_80 : decode cX8_isWord 80 = .ok (.invokevirtual 195, 3) := dk_182 0 195 (dk_at dksX8_isWord_3 10 rfl rfl)
theorem dX8_isWord_83 : decode cX8_isWord 83 = .ok (.ifCond .eq 29, 3) := dk_153 0 29 (dk_at dksX8_isWord_3 13 rfl rfl)
theorem dX8_isWord_86 : decode cX8_isWord 86 = .ok (.aload_n 0, 1) := dk_42 (dk_at dksX8_isWord_3 16 rfl rfl)
theorem dX8_isWord_87 : decode cX8_isWord 87 = .ok (.bipush 6, 2) := dk_16 6 (dk_at dksX8_isWord_3 17 rfl rfl)
theorem dX8_isWord_89 : decode cX8_isWord 89 = .ok (.iload 7, 2) := dk_21 7 (dk_at dksX8_isWord_3 19 rfl rfl)
theorem dX8_isWord_91 : decode cX8_isWord 91 = .ok (.invokevirtual 195, 3) := dk_182 0 195 (dk_at dksX8_isWord_3 21 rfl rfl)
theorem dX8_isWord_94 : decode cX8_isWord 94 = .ok (.ifCond .eq 18, 3) := dk_153 0 18 (dk_at dksX8_isWord_4 0 rfl rfl)
theorem dX8_isWord_97 : decode cX8_isWord 97 = .ok (.aload_n 0, 1) := dk_42 (dk_at dksX8_isWord_4 3 rfl rfl)
theorem dX8_isWord_98 : decode cX8_isWord 98 = .ok (.bipush 7, 2) := dk_16 7 (dk_at dksX8_isWord_4 4 rfl rfl)
theorem dX8_isWord_100 : decode cX8_isWord 100 = .ok (.iload 8, 2) := dk_21 8 (dk_at dksX8_isWord_4 6 rfl rfl)
theorem dX8_isWord_102 : decode cX8_isWord 102 = .ok (.invokevirtual 195, 3) := dk_182 0 195 (dk_at dksX8_isWord_4 8 rfl rfl)
theorem dX8_isWord_105 : decode cX8_isWord 105 = .ok (.ifCond .eq 7, 3) := dk_153 0 7 (dk_at dksX8_isWord_4 11 rfl rfl)
theorem dX8_isWord_108 : decode cX8_isWord 108 = .ok (.iconst 1, 1) := dk_4 (dk_at dksX8_isWord_4 14 rfl rfl)
theorem dX8_isWord_109 : decode cX8_isWord 109 = .ok (.goto 4, 3) := dk_167 0 4 (dk_at dksX8_isWord_4 15 rfl rfl)
theorem dX8_isWord_112 : decode cX8_isWord 112 = .ok (.iconst 0, 1) := dk_3 (dk_at dksX8_isWord_4 18 rfl rfl)
theorem dX8_isWord_113 : decode cX8_isWord 113 = .ok (.ireturn, 1) := dk_172 (dk_at dksX8_isWord_4 19 rfl rfl)
abbrev cX8_isLetter : ByteArray := prog_16_method_22_code
def yX8_isLetter : MethodName := ⟨RX8, "isLetter", "(II)Z"⟩
def dkwX8_isLetter_1 : List UInt8 := [160, 0, 7, 4, 167, 0, 16, 3, 167, 0, 12, 28, 154, 0, 7, 4, 167, 0, 4, 3, 172]
abbrev dktX8_isLetter_1 : List UInt8 := dkwX8_isLetter_1 ++ []
def dkwX8_isLetter_0 : List UInt8 := [42, 180, 0, 168, 27, 96, 42, 180, 0, 162, 162, 0, 25, 42, 42, 180, 0, 168, 27, 96, 182, 0, 165, 28]
abbrev dktX8_isLetter_0 : List UInt8 := dkwX8_isLetter_0 ++ dktX8_isLetter_1
theorem dksX8_isLetter_0 : cX8_isLetter.data.toList.drop 0 = dktX8_isLetter_0 := by decide +kernel
theorem dksX8_isLetter_1 : cX8_isLetter.data.toList.drop 24 = dktX8_isLetter_1 := dk_seg dksX8_isLetter_0 24 rfl rfl
theorem dX8_isLetter_0 : decode cX8_isLetter 0 = .ok (.aload_n 0, 1) := dk_42 (dk_at dksX8_isLetter_0 0 rfl rfl)
theorem dX8_isLetter_1 : decode cX8_isLetter 1 = .ok (.getfield 168, 3) := dk_180 0 168 (dk_at dksX8_isLetter_0 1 rfl rfl)
theorem dX8_isLetter_4 : decode cX8_isLetter 4 = .ok (.iload_n 1, 1) := dk_27 (dk_at dksX8_isLetter_0 4 rfl rfl)
theorem dX8_isLetter_5 : decode cX8_isLetter 5 = .ok (.iadd, 1) := dk_96 (dk_at dksX8_isLetter_0 5 rfl rfl)
theorem dX8_isLetter_6 : decode cX8_isLetter 6 = .ok (.aload_n 0, 1) := dk_42 (dk_at dksX8_isLetter_0 6 rfl rfl)
theorem dX8_isLetter_7 : decode cX8_isLetter 7 = .ok (.getfield 162, 3) := dk_180 0 162 (dk_at dksX8_isLetter_0 7 rfl rfl)
theorem dX8_isLetter_10 : decode cX8_isLetter 10 = .ok (.if_icmp .ge 25, 3) := dk_162 0 25 (dk_at dksX8_isLetter_0 10 rfl rfl)
theorem dX8_isLetter_13 : decode cX8_isLetter 13 = .ok (.aload_n 0, 1) := dk_42 (dk_at dksX8_isLetter_0 13 rfl rfl)
theorem dX8_isLetter_14 : decode cX8_isLetter 14 = .ok (.aload_n 0, 1) := dk_42 (dk_at dksX8_isLetter_0 14 rfl rfl)
theorem dX8_isLetter_15 : decode cX8_isLetter 15 = .ok (.getfield 168, 3) := dk_180 0 168 (dk_at dksX8_isLetter_0 15 rfl rfl)
theorem dX8_isLetter_18 : decode cX8_isLetter 18 = .ok (.iload_n 1, 1) := dk_27 (dk_at dksX8_isLetter_0 18 rfl rfl)
theorem dX8_isLetter_19 : decode cX8_isLetter 19 = .ok (.iadd, 1) := dk_96 (dk_at dksX8_isLetter_0 19 rfl rfl)
theorem dX8_isLetter_20 : decode cX8_isLetter 20 = .ok (.invokevirtual 165, 3) := dk_182 0 165 (dk_at dksX8_isLetter_0 20 rfl rfl)
theorem dX8_isLetter_23 : decode cX8_isLetter 23 = .ok (.iload_n 2, 1) := dk_28 (dk_at dksX8_isLetter_0 23 rfl rfl)
theorem dX8_isLetter_24 : decode cX8_isLetter 24 = .ok (.if_icmp .ne 7, 3) := dk_160 0 7 (dk_at dksX8_isLetter_1 0 rfl rfl)
theorem dX8_isLetter_27 : decode cX8_isLetter 27 = .ok (.iconst 1, 1) := dk_4 (dk_at dksX8_isLetter_1 3 rfl rfl)
theorem dX8_isLetter_28 : decode cX8_isLetter 28 = .ok (.goto 16, 3) := dk_167 0 16 (dk_at dksX8_isLetter_1 4 rfl rfl)
theorem dX8_isLetter_31 : decode cX8_isLetter 31 = .ok (.iconst 0, 1) := dk_3 (dk_at dksX8_isLetter_1 7 rfl rfl)
theorem dX8_isLetter_32 : decode cX8_isLetter 32 = .ok (.goto 12, 3) := dk_167 0 12 (dk_at dksX8_isLetter_1 8 rfl rfl)
theorem dX8_isLetter_35 : decode cX8_isLetter 35 = .ok (.iload_n 2, 1) := dk_28 (dk_at dksX8_isLetter_1 11 rfl rfl)
theorem dX8_isLetter_36 : decode cX8_isLetter 36 = .ok (.ifCond .ne 7, 3) := dk_154 0 7 (dk_at dksX8_isLetter_1 12 rfl rfl)
theorem dX8_isLetter_39 : decode cX8_isLetter 39 = .ok (.iconst 1, 1) := dk_4 (dk_at dksX8_isLetter_1 15 rfl rfl)
theorem dX8_isLetter_40 : decode cX8_isLetter 40 = .ok (.goto 4, 3) := dk_167 0 4 (dk_at dksX8_isLetter_1 16 rfl rfl)
theorem dX8_isLetter_43 : decode cX8_isLetter 43 = .ok (.iconst 0, 1) := dk_3 (dk_at dksX8_isLetter_1 19 rfl rfl)
theorem dX8_isLetter_44 : decode cX8_isLetter 44 = .ok (.ireturn, 1) := dk_172 (dk_at dksX8_isLetter_1 20 rfl rfl)
abbrev cX8_part : ByteArray := prog_16_method_33_code
def yX8_part : MethodName := ⟨RX8, "part", "(Z)I"⟩
def dkwX8_part_2 : List UInt8 := [182, 0, 201, 42, 180, 0, 188, 154, 0, 7, 42, 182, 0, 204, 28, 172]
abbrev dktX8_part_2 : List UInt8 := dkwX8_part_2 ++ []
def dkwX8_part_1 : List UInt8 := [153, 0, 7, 3, 167, 0, 7, 42, 182, 0, 240, 61, 42, 16, 59, 182, 0, 229, 154, 0, 7, 42]
abbrev dktX8_part_1 : List UInt8 := dkwX8_part_1 ++ dktX8_part_2
def dkwX8_part_0 : List UInt8 := [27, 154, 0, 7, 42, 182, 0, 201, 42, 180, 0, 188, 154, 0, 7, 42, 182, 0, 204, 42, 180, 0, 188]
abbrev dktX8_part_0 : List UInt8 := dkwX8_part_0 ++ dktX8_part_1
theorem dksX8_part_0 : cX8_part.data.toList.drop 0 = dktX8_part_0 := by decide +kernel
theorem dksX8_part_1 : cX8_part.data.toList.drop 23 = dktX8_part_1 := dk_seg dksX8_part_0 23 rfl rfl
theorem dksX8_part_2 : cX8_part.data.toList.drop 45 = dktX8_part_2 := dk_seg dksX8_part_1 22 rfl rfl
theorem dX8_part_0 : decode cX8_part 0 = .ok (.iload_n 1, 1) := dk_27 (dk_at dksX8_part_0 0 rfl rfl)
theorem dX8_part_1 : decode cX8_part 1 = .ok (.ifCond .ne 7, 3) := dk_154 0 7 (dk_at dksX8_part_0 1 rfl rfl)
theorem dX8_part_4 : decode cX8_part 4 = .ok (.aload_n 0, 1) := dk_42 (dk_at dksX8_part_0 4 rfl rfl)
theorem dX8_part_5 : decode cX8_part 5 = .ok (.invokevirtual 201, 3) := dk_182 0 201 (dk_at dksX8_part_0 5 rfl rfl)
theorem dX8_part_8 : decode cX8_part 8 = .ok (.aload_n 0, 1) := dk_42 (dk_at dksX8_part_0 8 rfl rfl)
theorem dX8_part_9 : decode cX8_part 9 = .ok (.getfield 188, 3) := dk_180 0 188 (dk_at dksX8_part_0 9 rfl rfl)
theorem dX8_part_12 : decode cX8_part 12 = .ok (.ifCond .ne 7, 3) := dk_154 0 7 (dk_at dksX8_part_0 12 rfl rfl)
theorem dX8_part_15 : decode cX8_part 15 = .ok (.aload_n 0, 1) := dk_42 (dk_at dksX8_part_0 15 rfl rfl)
theorem dX8_part_16 : decode cX8_part 16 = .ok (.invokevirtual 204, 3) := dk_182 0 204 (dk_at dksX8_part_0 16 rfl rfl)
theorem dX8_part_19 : decode cX8_part 19 = .ok (.aload_n 0, 1) := dk_42 (dk_at dksX8_part_0 19 rfl rfl)
theorem dX8_part_20 : decode cX8_part 20 = .ok (.getfield 188, 3) := dk_180 0 188 (dk_at dksX8_part_0 20 rfl rfl)
theorem dX8_part_23 : decode cX8_part 23 = .ok (.ifCond .eq 7, 3) := dk_153 0 7 (dk_at dksX8_part_1 0 rfl rfl)
theorem dX8_part_26 : decode cX8_part 26 = .ok (.iconst 0, 1) := dk_3 (dk_at dksX8_part_1 3 rfl rfl)
theorem dX8_part_27 : decode cX8_part 27 = .ok (.goto 7, 3) := dk_167 0 7 (dk_at dksX8_part_1 4 rfl rfl)
theorem dX8_part_30 : decode cX8_part 30 = .ok (.aload_n 0, 1) := dk_42 (dk_at dksX8_part_1 7 rfl rfl)
theorem dX8_part_31 : decode cX8_part 31 = .ok (.invokevirtual 240, 3) := dk_182 0 240 (dk_at dksX8_part_1 8 rfl rfl)
theorem dX8_part_34 : decode cX8_part 34 = .ok (.istore_n 2, 1) := dk_61 (dk_at dksX8_part_1 11 rfl rfl)
theorem dX8_part_35 : decode cX8_part 35 = .ok (.aload_n 0, 1) := dk_42 (dk_at dksX8_part_1 12 rfl rfl)
theorem dX8_part_36 : decode cX8_part 36 = .ok (.bipush 59, 2) := dk_16 59 (dk_at dksX8_part_1 13 rfl rfl)
theorem dX8_part_38 : decode cX8_part 38 = .ok (.invokevirtual 229, 3) := dk_182 0 229 (dk_at dksX8_part_1 15 rfl rfl)
theorem dX8_part_41 : decode cX8_part 41 = .ok (.ifCond .ne 7, 3) := dk_154 0 7 (dk_at dksX8_part_1 18 rfl rfl)
theorem dX8_part_44 : decode cX8_part 44 = .ok (.aload_n 0, 1) := dk_42 (dk_at dksX8_part_1 21 rfl rfl)
theorem dX8_part_45 : decode cX8_part 45 = .ok (.invokevirtual 201, 3) := dk_182 0 201 (dk_at dksX8_part_2 0 rfl rfl)
theorem dX8_part_48 : decode cX8_part 48 = .ok (.aload_n 0, 1) := dk_42 (dk_at dksX8_part_2 3 rfl rfl)
theorem dX8_part_49 : decode cX8_part 49 = .ok (.getfield 188, 3) := dk_180 0 188 (dk_at dksX8_part_2 4 rfl rfl)
theorem dX8_part_52 : decode cX8_part 52 = .ok (.ifCond .ne 7, 3) := dk_154 0 7 (dk_at dksX8_part_2 7 rfl rfl)
theorem dX8_part_55 : decode cX8_part 55 = .ok (.aload_n 0, 1) := dk_42 (dk_at dksX8_part_2 10 rfl rfl)
theorem dX8_part_56 : decode cX8_part 56 = .ok (.invokevirtual 204, 3) := dk_182 0 204 (dk_at dksX8_part_2 11 rfl rfl)
theorem dX8_part_59 : decode cX8_part 59 = .ok (.iload_n 2, 1) := dk_28 (dk_at dksX8_part_2 14 rfl rfl)
theorem dX8_part_60 : decode cX8_part 60 = .ok (.ireturn, 1) := dk_172 (dk_at dksX8_part_2 15 rfl rfl)
abbrev cX8_fail : ByteArray := prog_16_method_21_code
def yX8_fail : MethodName := ⟨RX8, "fail", "()V"⟩
def dkwX8_fail_0 : List UInt8 := [42, 180, 0, 188, 154, 0, 16, 42, 4, 181, 0, 188, 42, 42, 180, 0, 168, 181, 0, 192, 177]
abbrev dktX8_fail_0 : List UInt8 := dkwX8_fail_0 ++ []
theorem dksX8_fail_0 : cX8_fail.data.toList.drop 0 = dktX8_fail_0 := by decide +kernel
theorem dX8_fail_0 : decode cX8_fail 0 = .ok (.aload_n 0, 1) := dk_42 (dk_at dksX8_fail_0 0 rfl rfl)
theorem dX8_fail_1 : decode cX8_fail 1 = .ok (.getfield 188, 3) := dk_180 0 188 (dk_at dksX8_fail_0 1 rfl rfl)
theorem dX8_fail_4 : decode cX8_fail 4 = .ok (.ifCond .ne 16, 3) := dk_154 0 16 (dk_at dksX8_fail_0 4 rfl rfl)
theorem dX8_fail_7 : decode cX8_fail 7 = .ok (.aload_n 0, 1) := dk_42 (dk_at dksX8_fail_0 7 rfl rfl)
theorem dX8_fail_8 : decode cX8_fail 8 = .ok (.iconst 1, 1) := dk_4 (dk_at dksX8_fail_0 8 rfl rfl)
theorem dX8_fail_9 : decode cX8_fail 9 = .ok (.putfield 188, 3) := dk_181 0 188 (dk_at dksX8_fail_0 9 rfl rfl)
theorem dX8_fail_12 : decode cX8_fail 12 = .ok (.aload_n 0, 1) := dk_42 (dk_at dksX8_fail_0 12 rfl rfl)
theorem dX8_fail_13 : decode cX8_fail 13 = .ok (.aload_n 0, 1) := dk_42 (dk_at dksX8_fail_0 13 rfl rfl)
theorem dX8_fail_14 : decode cX8_fail 14 = .ok (.getfield 168, 3) := dk_180 0 168 (dk_at dksX8_fail_0 14 rfl rfl)
theorem dX8_fail_17 : decode cX8_fail 17 = .ok (.putfield 192, 3) := dk_181 0 192 (dk_at dksX8_fail_0 17 rfl rfl)
theorem dX8_fail_20 : decode cX8_fail 20 = .ok (.return_, 1) := dk_177 (dk_at dksX8_fail_0 20 rfl rfl)
abbrev cX8_either : ByteArray := prog_16_method_32_code
def yX8_either : MethodName := ⟨RX8, "either", "()I"⟩
def dkwX8_either_2 : List UInt8 := [167, 255, 216, 27, 172]
abbrev dktX8_either_2 : List UInt8 := dkwX8_either_2 ++ []
def dkwX8_either_1 : List UInt8 := [182, 0, 204, 42, 182, 1, 3, 61, 27, 154, 0, 7, 28, 153, 0, 7, 4, 167, 0, 4, 3, 60]
abbrev dktX8_either_1 : List UInt8 := dkwX8_either_1 ++ dktX8_either_2
def dkwX8_either_0 : List UInt8 := [42, 182, 1, 3, 60, 42, 16, 111, 16, 114, 3, 3, 3, 3, 3, 3, 182, 0, 207, 153, 0, 29, 42]
abbrev dktX8_either_0 : List UInt8 := dkwX8_either_0 ++ dktX8_either_1
theorem dksX8_either_0 : cX8_either.data.toList.drop 0 = dktX8_either_0 := by decide +kernel
theorem dksX8_either_1 : cX8_either.data.toList.drop 23 = dktX8_either_1 := dk_seg dksX8_either_0 23 rfl rfl
theorem dksX8_either_2 : cX8_either.data.toList.drop 45 = dktX8_either_2 := dk_seg dksX8_either_1 22 rfl rfl
theorem dX8_either_0 : decode cX8_either 0 = .ok (.aload_n 0, 1) := dk_42 (dk_at dksX8_either_0 0 rfl rfl)
theorem dX8_either_1 : decode cX8_either 1 = .ok (.invokevirtual 259, 3) := dk_182 1 3 (dk_at dksX8_either_0 1 rfl rfl)
theorem dX8_either_4 : decode cX8_either 4 = .ok (.istore_n 1, 1) := dk_60 (dk_at dksX8_either_0 4 rfl rfl)
theorem dX8_either_5 : decode cX8_either 5 = .ok (.aload_n 0, 1) := dk_42 (dk_at dksX8_either_0 5 rfl rfl)
theorem dX8_either_6 : decode cX8_either 6 = .ok (.bipush 111, 2) := dk_16 111 (dk_at dksX8_either_0 6 rfl rfl)
theorem dX8_either_8 : decode cX8_either 8 = .ok (.bipush 114, 2) := dk_16 114 (dk_at dksX8_either_0 8 rfl rfl)
theorem dX8_either_10 : decode cX8_either 10 = .ok (.iconst 0, 1) := dk_3 (dk_at dksX8_either_0 10 rfl rfl)
theorem dX8_either_11 : decode cX8_either 11 = .ok (.iconst 0, 1) := dk_3 (dk_at dksX8_either_0 11 rfl rfl)
theorem dX8_either_12 : decode cX8_either 12 = .ok (.iconst 0, 1) := dk_3 (dk_at dksX8_either_0 12 rfl rfl)
theorem dX8_either_13 : decode cX8_either 13 = .ok (.iconst 0, 1) := dk_3 (dk_at dksX8_either_0 13 rfl rfl)
theorem dX8_either_14 : decode cX8_either 14 = .ok (.iconst 0, 1) := dk_3 (dk_at dksX8_either_0 14 rfl rfl)
theorem dX8_either_15 : decode cX8_either 15 = .ok (.iconst 0, 1) := dk_3 (dk_at dksX8_either_0 15 rfl rfl)
theorem dX8_either_16 : decode cX8_either 16 = .ok (.invokevirtual 207, 3) := dk_182 0 207 (dk_at dksX8_either_0 16 rfl rfl)
theorem dX8_either_19 : decode cX8_either 19 = .ok (.ifCond .eq 29, 3) := dk_153 0 29 (dk_at dksX8_either_0 19 rfl rfl)
theorem dX8_either_22 : decode cX8_either 22 = .ok (.aload_n 0, 1) := dk_42 (dk_at dksX8_either_0 22 rfl rfl)
theorem dX8_either_23 : decode cX8_either 23 = .ok (.invokevirtual 204, 3) := dk_182 0 204 (dk_at dksX8_either_1 0 rfl rfl)
theorem dX8_either_26 : decode cX8_either 26 = .ok (.aload_n 0, 1) := dk_42 (dk_at dksX8_either_1 3 rfl rfl)
theorem dX8_either_27 : decode cX8_either 27 = .ok (.invokevirtual 259, 3) := dk_182 1 3 (dk_at dksX8_either_1 4 rfl rfl)
theorem dX8_either_30 : decode cX8_either 30 = .ok (.istore_n 2, 1) := dk_61 (dk_at dksX8_either_1 7 rfl rfl)
theorem dX8_either_31 : decode cX8_either 31 = .ok (.iload_n 1, 1) := dk_27 (dk_at dksX8_either_1 8 rfl rfl)
theorem dX8_either_32 : decode cX8_either 32 = .ok (.ifCond .ne 7, 3) := dk_154 0 7 (dk_at dksX8_either_1 9 rfl rfl)
theorem dX8_either_35 : decode cX8_either 35 = .ok (.iload_n 2, 1) := dk_28 (dk_at dksX8_either_1 12 rfl rfl)
theorem dX8_either_36 : decode cX8_either 36 = .ok (.ifCond .eq 7, 3) := dk_153 0 7 (dk_at dksX8_either_1 13 rfl rfl)
theorem dX8_either_39 : decode cX8_either 39 = .ok (.iconst 1, 1) := dk_4 (dk_at dksX8_either_1 16 rfl rfl)
theorem dX8_either_40 : decode cX8_either 40 = .ok (.goto 4, 3) := dk_167 0 4 (dk_at dksX8_either_1 17 rfl rfl)
theorem dX8_either_43 : decode cX8_either 43 = .ok (.iconst 0, 1) := dk_3 (dk_at dksX8_either_1 20 rfl rfl)
theorem dX8_either_44 : decode cX8_either 44 = .ok (.istore_n 1, 1) := dk_60 (dk_at dksX8_either_1 21 rfl rfl)
theorem dX8_either_45 : decode cX8_either 45 = .ok (.goto (-40), 3) := dk_167 255 216 (dk_at dksX8_either_2 0 rfl rfl)
theorem dX8_either_48 : decode cX8_either 48 = .ok (.iload_n 1, 1) := dk_27 (dk_at dksX8_either_2 3 rfl rfl)
theorem dX8_either_49 : decode cX8_either 49 = .ok (.ireturn, 1) := dk_172 (dk_at dksX8_either_2 4 rfl rfl)
abbrev cX8_both : ByteArray := prog_16_method_31_code
def yX8_both : MethodName := ⟨RX8, "both", "()I"⟩
def dkwX8_both_2 : List UInt8 := [167, 255, 215, 27, 172]
abbrev dktX8_both_2 : List UInt8 := dkwX8_both_2 ++ []
def dkwX8_both_1 : List UInt8 := [182, 0, 204, 42, 182, 0, 251, 61, 27, 153, 0, 11, 28, 153, 0, 7, 4, 167, 0, 4, 3, 60]
abbrev dktX8_both_1 : List UInt8 := dkwX8_both_1 ++ dktX8_both_2
def dkwX8_both_0 : List UInt8 := [42, 182, 0, 251, 60, 42, 16, 97, 16, 110, 16, 100, 3, 3, 3, 3, 3, 182, 0, 207, 153, 0, 29, 42]
abbrev dktX8_both_0 : List UInt8 := dkwX8_both_0 ++ dktX8_both_1
theorem dksX8_both_0 : cX8_both.data.toList.drop 0 = dktX8_both_0 := by decide +kernel
theorem dksX8_both_1 : cX8_both.data.toList.drop 24 = dktX8_both_1 := dk_seg dksX8_both_0 24 rfl rfl
theorem dksX8_both_2 : cX8_both.data.toList.drop 46 = dktX8_both_2 := dk_seg dksX8_both_1 22 rfl rfl
theorem dX8_both_0 : decode cX8_both 0 = .ok (.aload_n 0, 1) := dk_42 (dk_at dksX8_both_0 0 rfl rfl)
theorem dX8_both_1 : decode cX8_both 1 = .ok (.invokevirtual 251, 3) := dk_182 0 251 (dk_at dksX8_both_0 1 rfl rfl)
theorem dX8_both_4 : decode cX8_both 4 = .ok (.istore_n 1, 1) := dk_60 (dk_at dksX8_both_0 4 rfl rfl)
theorem dX8_both_5 : decode cX8_both 5 = .ok (.aload_n 0, 1) := dk_42 (dk_at dksX8_both_0 5 rfl rfl)
theorem dX8_both_6 : decode cX8_both 6 = .ok (.bipush 97, 2) := dk_16 97 (dk_at dksX8_both_0 6 rfl rfl)
theorem dX8_both_8 : decode cX8_both 8 = .ok (.bipush 110, 2) := dk_16 110 (dk_at dksX8_both_0 8 rfl rfl)
theorem dX8_both_10 : decode cX8_both 10 = .ok (.bipush 100, 2) := dk_16 100 (dk_at dksX8_both_0 10 rfl rfl)
theorem dX8_both_12 : decode cX8_both 12 = .ok (.iconst 0, 1) := dk_3 (dk_at dksX8_both_0 12 rfl rfl)
theorem dX8_both_13 : decode cX8_both 13 = .ok (.iconst 0, 1) := dk_3 (dk_at dksX8_both_0 13 rfl rfl)
theorem dX8_both_14 : decode cX8_both 14 = .ok (.iconst 0, 1) := dk_3 (dk_at dksX8_both_0 14 rfl rfl)
theorem dX8_both_15 : decode cX8_both 15 = .ok (.iconst 0, 1) := dk_3 (dk_at dksX8_both_0 15 rfl rfl)
theorem dX8_both_16 : decode cX8_both 16 = .ok (.iconst 0, 1) := dk_3 (dk_at dksX8_both_0 16 rfl rfl)
theorem dX8_both_17 : decode cX8_both 17 = .ok (.invokevirtual 207, 3) := dk_182 0 207 (dk_at dksX8_both_0 17 rfl rfl)
theorem dX8_both_20 : decode cX8_both 20 = .ok (.ifCond .eq 29, 3) := dk_153 0 29 (dk_at dksX8_both_0 20 rfl rfl)
theorem dX8_both_23 : decode cX8_both 23 = .ok (.aload_n 0, 1) := dk_42 (dk_at dksX8_both_0 23 rfl rfl)
theorem dX8_both_24 : decode cX8_both 24 = .ok (.invokevirtual 204, 3) := dk_182 0 204 (dk_at dksX8_both_1 0 rfl rfl)
theorem dX8_both_27 : decode cX8_both 27 = .ok (.aload_n 0, 1) := dk_42 (dk_at dksX8_both_1 3 rfl rfl)
theorem dX8_both_28 : decode cX8_both 28 = .ok (.invokevirtual 251, 3) := dk_182 0 251 (dk_at dksX8_both_1 4 rfl rfl)
theorem dX8_both_31 : decode cX8_both 31 = .ok (.istore_n 2, 1) := dk_61 (dk_at dksX8_both_1 7 rfl rfl)
theorem dX8_both_32 : decode cX8_both 32 = .ok (.iload_n 1, 1) := dk_27 (dk_at dksX8_both_1 8 rfl rfl)
theorem dX8_both_33 : decode cX8_both 33 = .ok (.ifCond .eq 11, 3) := dk_153 0 11 (dk_at dksX8_both_1 9 rfl rfl)
theorem dX8_both_36 : decode cX8_both 36 = .ok (.iload_n 2, 1) := dk_28 (dk_at dksX8_both_1 12 rfl rfl)
theorem dX8_both_37 : decode cX8_both 37 = .ok (.ifCond .eq 7, 3) := dk_153 0 7 (dk_at dksX8_both_1 13 rfl rfl)
theorem dX8_both_40 : decode cX8_both 40 = .ok (.iconst 1, 1) := dk_4 (dk_at dksX8_both_1 16 rfl rfl)
theorem dX8_both_41 : decode cX8_both 41 = .ok (.goto 4, 3) := dk_167 0 4 (dk_at dksX8_both_1 17 rfl rfl)
theorem dX8_both_44 : decode cX8_both 44 = .ok (.iconst 0, 1) := dk_3 (dk_at dksX8_both_1 20 rfl rfl)
theorem dX8_both_45 : decode cX8_both 45 = .ok (.istore_n 1, 1) := dk_60 (dk_at dksX8_both_1 21 rfl rfl)
theorem dX8_both_46 : decode cX8_both 46 = .ok (.goto (-41), 3) := dk_167 255 215 (dk_at dksX8_both_2 0 rfl rfl)
theorem dX8_both_49 : decode cX8_both 49 = .ok (.iload_n 1, 1) := dk_27 (dk_at dksX8_both_2 3 rfl rfl)
theorem dX8_both_50 : decode cX8_both 50 = .ok (.ireturn, 1) := dk_172 (dk_at dksX8_both_2 4 rfl rfl)
abbrev cX8_not : ByteArray := prog_16_method_30_code
def yX8_not : MethodName := ⟨RX8, "not", "()I"⟩
def dkwX8_not_5 : List UInt8 := [160, 0, 7, 4, 167, 0, 4, 3, 172]
abbrev dktX8_not_5 : List UInt8 := dkwX8_not_5 ++ []
def dkwX8_not_4 : List UInt8 := [61, 42, 182, 0, 204, 42, 182, 0, 254, 62, 28, 153, 0, 11, 27, 29, 162, 0, 15, 167, 0, 8, 27, 29]
abbrev dktX8_not_4 : List UInt8 := dkwX8_not_4 ++ dktX8_not_5
def dkwX8_not_3 : List UInt8 := [182, 0, 229, 154, 0, 5, 27, 172, 42, 180, 0, 182, 20, 1, 1, 148, 154, 0, 7, 4, 167, 0, 4, 3]
abbrev dktX8_not_3 : List UInt8 := dkwX8_not_3 ++ dktX8_not_4
def dkwX8_not_2 : List UInt8 := [4, 167, 0, 4, 3, 172, 42, 182, 0, 254, 60, 42, 16, 60, 182, 0, 229, 154, 0, 14, 42, 16, 61]
abbrev dktX8_not_2 : List UInt8 := dkwX8_not_2 ++ dktX8_not_3
def dkwX8_not_1 : List UInt8 := [154, 0, 5, 3, 172, 42, 182, 0, 251, 60, 42, 89, 180, 0, 198, 4, 100, 181, 0, 198, 27, 154, 0, 7]
abbrev dktX8_not_1 : List UInt8 := dkwX8_not_1 ++ dktX8_not_2
def dkwX8_not_0 : List UInt8 := [42, 16, 110, 16, 111, 16, 116, 3, 3, 3, 3, 3, 182, 0, 207, 153, 0, 37, 42, 182, 0, 232]
abbrev dktX8_not_0 : List UInt8 := dkwX8_not_0 ++ dktX8_not_1
theorem dksX8_not_0 : cX8_not.data.toList.drop 0 = dktX8_not_0 := by decide +kernel
theorem dksX8_not_1 : cX8_not.data.toList.drop 22 = dktX8_not_1 := dk_seg dksX8_not_0 22 rfl rfl
theorem dksX8_not_2 : cX8_not.data.toList.drop 46 = dktX8_not_2 := dk_seg dksX8_not_1 24 rfl rfl
theorem dksX8_not_3 : cX8_not.data.toList.drop 69 = dktX8_not_3 := dk_seg dksX8_not_2 23 rfl rfl
theorem dksX8_not_4 : cX8_not.data.toList.drop 93 = dktX8_not_4 := dk_seg dksX8_not_3 24 rfl rfl
theorem dksX8_not_5 : cX8_not.data.toList.drop 117 = dktX8_not_5 := dk_seg dksX8_not_4 24 rfl rfl
theorem dX8_not_0 : decode cX8_not 0 = .ok (.aload_n 0, 1) := dk_42 (dk_at dksX8_not_0 0 rfl rfl)
theorem dX8_not_1 : decode cX8_not 1 = .ok (.bipush 110, 2) := dk_16 110 (dk_at dksX8_not_0 1 rfl rfl)
theorem dX8_not_3 : decode cX8_not 3 = .ok (.bipush 111, 2) := dk_16 111 (dk_at dksX8_not_0 3 rfl rfl)
theorem dX8_not_5 : decode cX8_not 5 = .ok (.bipush 116, 2) := dk_16 116 (dk_at dksX8_not_0 5 rfl rfl)
theorem dX8_not_7 : decode cX8_not 7 = .ok (.iconst 0, 1) := dk_3 (dk_at dksX8_not_0 7 rfl rfl)
theorem dX8_not_8 : decode cX8_not 8 = .ok (.iconst 0, 1) := dk_3 (dk_at dksX8_not_0 8 rfl rfl)
theorem dX8_not_9 : decode cX8_not 9 = .ok (.iconst 0, 1) := dk_3 (dk_at dksX8_not_0 9 rfl rfl)
theorem dX8_not_10 : decode cX8_not 10 = .ok (.iconst 0, 1) := dk_3 (dk_at dksX8_not_0 10 rfl rfl)
theorem dX8_not_11 : decode cX8_not 11 = .ok (.iconst 0, 1) := dk_3 (dk_at dksX8_not_0 11 rfl rfl)
theorem dX8_not_12 : decode cX8_not 12 = .ok (.invokevirtual 207, 3) := dk_182 0 207 (dk_at dksX8_not_0 12 rfl rfl)
theorem dX8_not_15 : decode cX8_not 15 = .ok (.ifCond .eq 37, 3) := dk_153 0 37 (dk_at dksX8_not_0 15 rfl rfl)
theorem dX8_not_18 : decode cX8_not 18 = .ok (.aload_n 0, 1) := dk_42 (dk_at dksX8_not_0 18 rfl rfl)
theorem dX8_not_19 : decode cX8_not 19 = .ok (.invokevirtual 232, 3) := dk_182 0 232 (dk_at dksX8_not_0 19 rfl rfl)
theorem dX8_not_22 : decode cX8_not 22 = .ok (.ifCond .ne 5, 3) := dk_154 0 5 (dk_at dksX8_not_1 0 rfl rfl)
theorem dX8_not_25 : decode cX8_not 25 = .ok (.iconst 0, 1) := dk_3 (dk_at dksX8_not_1 3 rfl rfl)
theorem dX8_not_26 : decode cX8_not 26 = .ok (.ireturn, 1) := dk_172 (dk_at dksX8_not_1 4 rfl rfl)
theorem dX8_not_27 : decode cX8_not 27 = .ok (.aload_n 0, 1) := dk_42 (dk_at dksX8_not_1 5 rfl rfl)
theorem dX8_not_28 : decode cX8_not 28 = .ok (.invokevirtual 251, 3) := dk_182 0 251 (dk_at dksX8_not_1 6 rfl rfl)
theorem dX8_not_31 : decode cX8_not 31 = .ok (.istore_n 1, 1) := dk_60 (dk_at dksX8_not_1 9 rfl rfl)
theorem dX8_not_32 : decode cX8_not 32 = .ok (.aload_n 0, 1) := dk_42 (dk_at dksX8_not_1 10 rfl rfl)
theorem dX8_not_33 : decode cX8_not 33 = .ok (.dup, 1) := dk_89 (dk_at dksX8_not_1 11 rfl rfl)
theorem dX8_not_34 : decode cX8_not 34 = .ok (.getfield 198, 3) := dk_180 0 198 (dk_at dksX8_not_1 12 rfl rfl)
theorem dX8_not_37 : decode cX8_not 37 = .ok (.iconst 1, 1) := dk_4 (dk_at dksX8_not_1 15 rfl rfl)
theorem dX8_not_38 : decode cX8_not 38 = .ok (.isub, 1) := dk_100 (dk_at dksX8_not_1 16 rfl rfl)
theorem dX8_not_39 : decode cX8_not 39 = .ok (.putfield 198, 3) := dk_181 0 198 (dk_at dksX8_not_1 17 rfl rfl)
theorem dX8_not_42 : decode cX8_not 42 = .ok (.iload_n 1, 1) := dk_27 (dk_at dksX8_not_1 20 rfl rfl)
theorem dX8_not_43 : decode cX8_not 43 = .ok (.ifCond .ne 7, 3) := dk_154 0 7 (dk_at dksX8_not_1 21 rfl rfl)
theorem dX8_not_46 : decode cX8_not 46 = .ok (.iconst 1, 1) := dk_4 (dk_at dksX8_not_2 0 rfl rfl)
theorem dX8_not_47 : decode cX8_not 47 = .ok (.goto 4, 3) := dk_167 0 4 (dk_at dksX8_not_2 1 rfl rfl)
theorem dX8_not_50 : decode cX8_not 50 = .ok (.iconst 0, 1) := dk_3 (dk_at dksX8_not_2 4 rfl rfl)
theorem dX8_not_51 : decode cX8_not 51 = .ok (.ireturn, 1) := dk_172 (dk_at dksX8_not_2 5 rfl rfl)
theorem dX8_not_52 : decode cX8_not 52 = .ok (.aload_n 0, 1) := dk_42 (dk_at dksX8_not_2 6 rfl rfl)
theorem dX8_not_53 : decode cX8_not 53 = .ok (.invokevirtual 254, 3) := dk_182 0 254 (dk_at dksX8_not_2 7 rfl rfl)
theorem dX8_not_56 : decode cX8_not 56 = .ok (.istore_n 1, 1) := dk_60 (dk_at dksX8_not_2 10 rfl rfl)
theorem dX8_not_57 : decode cX8_not 57 = .ok (.aload_n 0, 1) := dk_42 (dk_at dksX8_not_2 11 rfl rfl)
theorem dX8_not_58 : decode cX8_not 58 = .ok (.bipush 60, 2) := dk_16 60 (dk_at dksX8_not_2 12 rfl rfl)
theorem dX8_not_60 : decode cX8_not 60 = .ok (.invokevirtual 229, 3) := dk_182 0 229 (dk_at dksX8_not_2 14 rfl rfl)
theorem dX8_not_63 : decode cX8_not 63 = .ok (.ifCond .ne 14, 3) := dk_154 0 14 (dk_at dksX8_not_2 17 rfl rfl)
theorem dX8_not_66 : decode cX8_not 66 = .ok (.aload_n 0, 1) := dk_42 (dk_at dksX8_not_2 20 rfl rfl)
theorem dX8_not_67 : decode cX8_not 67 = .ok (.bipush 61, 2) := dk_16 61 (dk_at dksX8_not_2 21 rfl rfl)
theorem dX8_not_69 : decode cX8_not 69 = .ok (.invokevirtual 229, 3) := dk_182 0 229 (dk_at dksX8_not_3 0 rfl rfl)
theorem dX8_not_72 : decode cX8_not 72 = .ok (.ifCond .ne 5, 3) := dk_154 0 5 (dk_at dksX8_not_3 3 rfl rfl)
theorem dX8_not_75 : decode cX8_not 75 = .ok (.iload_n 1, 1) := dk_27 (dk_at dksX8_not_3 6 rfl rfl)
theorem dX8_not_76 : decode cX8_not 76 = .ok (.ireturn, 1) := dk_172 (dk_at dksX8_not_3 7 rfl rfl)
theorem dX8_not_77 : decode cX8_not 77 = .ok (.aload_n 0, 1) := dk_42 (dk_at dksX8_not_3 8 rfl rfl)
theorem dX8_not_78 : decode cX8_not 78 = .ok (.getfield 182, 3) := dk_180 0 182 (dk_at dksX8_not_3 9 rfl rfl)
theorem dX8_not_81 : decode cX8_not 81 = .ok (.ldc2_w 257, 3) := dk_20 1 1 (dk_at dksX8_not_3 12 rfl rfl)
theorem dX8_not_84 : decode cX8_not 84 = .ok (.lcmp, 1) := dk_148 (dk_at dksX8_not_3 15 rfl rfl)
theorem dX8_not_85 : decode cX8_not 85 = .ok (.ifCond .ne 7, 3) := dk_154 0 7 (dk_at dksX8_not_3 16 rfl rfl)
theorem dX8_not_88 : decode cX8_not 88 = .ok (.iconst 1, 1) := dk_4 (dk_at dksX8_not_3 19 rfl rfl)
theorem dX8_not_89 : decode cX8_not 89 = .ok (.goto 4, 3) := dk_167 0 4 (dk_at dksX8_not_3 20 rfl rfl)
theorem dX8_not_92 : decode cX8_not 92 = .ok (.iconst 0, 1) := dk_3 (dk_at dksX8_not_3 23 rfl rfl)
theorem dX8_not_93 : decode cX8_not 93 = .ok (.istore_n 2, 1) := dk_61 (dk_at dksX8_not_4 0 rfl rfl)
theorem dX8_not_94 : decode cX8_not 94 = .ok (.aload_n 0, 1) := dk_42 (dk_at dksX8_not_4 1 rfl rfl)
theorem dX8_not_95 : decode cX8_not 95 = .ok (.invokevirtual 204, 3) := dk_182 0 204 (dk_at dksX8_not_4 2 rfl rfl)
theorem dX8_not_98 : decode cX8_not 98 = .ok (.aload_n 0, 1) := dk_42 (dk_at dksX8_not_4 5 rfl rfl)
theorem dX8_not_99 : decode cX8_not 99 = .ok (.invokevirtual 254, 3) := dk_182 0 254 (dk_at dksX8_not_4 6 rfl rfl)
theorem dX8_not_102 : decode cX8_not 102 = .ok (.istore_n 3, 1) := dk_62 (dk_at dksX8_not_4 9 rfl rfl)
theorem dX8_not_103 : decode cX8_not 103 = .ok (.iload_n 2, 1) := dk_28 (dk_at dksX8_not_4 10 rfl rfl)
theorem dX8_not_104 : decode cX8_not 104 = .ok (.ifCond .eq 11, 3) := dk_153 0 11 (dk_at dksX8_not_4 11 rfl rfl)
theorem dX8_not_107 : decode cX8_not 107 = .ok (.iload_n 1, 1) := dk_27 (dk_at dksX8_not_4 14 rfl rfl)
theorem dX8_not_108 : decode cX8_not 108 = .ok (.iload_n 3, 1) := dk_29 (dk_at dksX8_not_4 15 rfl rfl)
theorem dX8_not_109 : decode cX8_not 109 = .ok (.if_icmp .ge 15, 3) := dk_162 0 15 (dk_at dksX8_not_4 16 rfl rfl)
theorem dX8_not_112 : decode cX8_not 112 = .ok (.goto 8, 3) := dk_167 0 8 (dk_at dksX8_not_4 19 rfl rfl)
theorem dX8_not_115 : decode cX8_not 115 = .ok (.iload_n 1, 1) := dk_27 (dk_at dksX8_not_4 22 rfl rfl)
theorem dX8_not_116 : decode cX8_not 116 = .ok (.iload_n 3, 1) := dk_29 (dk_at dksX8_not_4 23 rfl rfl)
theorem dX8_not_117 : decode cX8_not 117 = .ok (.if_icmp .ne 7, 3) := dk_160 0 7 (dk_at dksX8_not_5 0 rfl rfl)
theorem dX8_not_120 : decode cX8_not 120 = .ok (.iconst 1, 1) := dk_4 (dk_at dksX8_not_5 3 rfl rfl)
theorem dX8_not_121 : decode cX8_not 121 = .ok (.goto 4, 3) := dk_167 0 4 (dk_at dksX8_not_5 4 rfl rfl)
theorem dX8_not_124 : decode cX8_not 124 = .ok (.iconst 0, 1) := dk_3 (dk_at dksX8_not_5 7 rfl rfl)
theorem dX8_not_125 : decode cX8_not 125 = .ok (.ireturn, 1) := dk_172 (dk_at dksX8_not_5 8 rfl rfl)
abbrev cX8_opens : ByteArray := prog_16_method_25_code
def yX8_opens : MethodName := ⟨RX8, "opens", "()Z"⟩
def dkwX8_opens_1 : List UInt8 := [42, 182, 0, 204, 4, 172]
abbrev dktX8_opens_1 : List UInt8 := dkwX8_opens_1 ++ []
def dkwX8_opens_0 : List UInt8 := [42, 180, 0, 198, 8, 160, 0, 9, 42, 182, 0, 201, 3, 172, 42, 89, 180, 0, 198, 4, 96, 181, 0, 198]
abbrev dktX8_opens_0 : List UInt8 := dkwX8_opens_0 ++ dktX8_opens_1
theorem dksX8_opens_0 : cX8_opens.data.toList.drop 0 = dktX8_opens_0 := by decide +kernel
theorem dksX8_opens_1 : cX8_opens.data.toList.drop 24 = dktX8_opens_1 := dk_seg dksX8_opens_0 24 rfl rfl
theorem dX8_opens_0 : decode cX8_opens 0 = .ok (.aload_n 0, 1) := dk_42 (dk_at dksX8_opens_0 0 rfl rfl)
theorem dX8_opens_1 : decode cX8_opens 1 = .ok (.getfield 198, 3) := dk_180 0 198 (dk_at dksX8_opens_0 1 rfl rfl)
theorem dX8_opens_4 : decode cX8_opens 4 = .ok (.iconst 5, 1) := dk_8 (dk_at dksX8_opens_0 4 rfl rfl)
theorem dX8_opens_5 : decode cX8_opens 5 = .ok (.if_icmp .ne 9, 3) := dk_160 0 9 (dk_at dksX8_opens_0 5 rfl rfl)
theorem dX8_opens_8 : decode cX8_opens 8 = .ok (.aload_n 0, 1) := dk_42 (dk_at dksX8_opens_0 8 rfl rfl)
theorem dX8_opens_9 : decode cX8_opens 9 = .ok (.invokevirtual 201, 3) := dk_182 0 201 (dk_at dksX8_opens_0 9 rfl rfl)
theorem dX8_opens_12 : decode cX8_opens 12 = .ok (.iconst 0, 1) := dk_3 (dk_at dksX8_opens_0 12 rfl rfl)
theorem dX8_opens_13 : decode cX8_opens 13 = .ok (.ireturn, 1) := dk_172 (dk_at dksX8_opens_0 13 rfl rfl)
theorem dX8_opens_14 : decode cX8_opens 14 = .ok (.aload_n 0, 1) := dk_42 (dk_at dksX8_opens_0 14 rfl rfl)
theorem dX8_opens_15 : decode cX8_opens 15 = .ok (.dup, 1) := dk_89 (dk_at dksX8_opens_0 15 rfl rfl)
theorem dX8_opens_16 : decode cX8_opens 16 = .ok (.getfield 198, 3) := dk_180 0 198 (dk_at dksX8_opens_0 16 rfl rfl)
theorem dX8_opens_19 : decode cX8_opens 19 = .ok (.iconst 1, 1) := dk_4 (dk_at dksX8_opens_0 19 rfl rfl)
theorem dX8_opens_20 : decode cX8_opens 20 = .ok (.iadd, 1) := dk_96 (dk_at dksX8_opens_0 20 rfl rfl)
theorem dX8_opens_21 : decode cX8_opens 21 = .ok (.putfield 198, 3) := dk_181 0 198 (dk_at dksX8_opens_0 21 rfl rfl)
theorem dX8_opens_24 : decode cX8_opens 24 = .ok (.aload_n 0, 1) := dk_42 (dk_at dksX8_opens_1 0 rfl rfl)
theorem dX8_opens_25 : decode cX8_opens 25 = .ok (.invokevirtual 204, 3) := dk_182 0 204 (dk_at dksX8_opens_1 1 rfl rfl)
theorem dX8_opens_28 : decode cX8_opens 28 = .ok (.iconst 1, 1) := dk_4 (dk_at dksX8_opens_1 4 rfl rfl)
theorem dX8_opens_29 : decode cX8_opens 29 = .ok (.ireturn, 1) := dk_172 (dk_at dksX8_opens_1 5 rfl rfl)
abbrev cX8_added : ByteArray := prog_16_method_29_code
def yX8_added : MethodName := ⟨RX8, "added", "()I"⟩
def dkwX8_added_2 : List UInt8 := [62, 28, 153, 0, 9, 27, 29, 96, 167, 0, 6, 27, 29, 100, 60, 167, 255, 198, 27, 172]
abbrev dktX8_added_2 : List UInt8 := dkwX8_added_2 ++ []
def dkwX8_added_1 : List UInt8 := [180, 0, 182, 20, 0, 249, 148, 154, 0, 7, 4, 167, 0, 4, 3, 61, 42, 182, 0, 204, 42, 182, 0, 246]
abbrev dktX8_added_1 : List UInt8 := dkwX8_added_1 ++ dktX8_added_2
def dkwX8_added_0 : List UInt8 := [42, 182, 0, 246, 60, 42, 16, 43, 182, 0, 229, 154, 0, 12, 42, 16, 45, 182, 0, 229, 153, 0, 46, 42]
abbrev dktX8_added_0 : List UInt8 := dkwX8_added_0 ++ dktX8_added_1
theorem dksX8_added_0 : cX8_added.data.toList.drop 0 = dktX8_added_0 := by decide +kernel
theorem dksX8_added_1 : cX8_added.data.toList.drop 24 = dktX8_added_1 := dk_seg dksX8_added_0 24 rfl rfl
theorem dksX8_added_2 : cX8_added.data.toList.drop 48 = dktX8_added_2 := dk_seg dksX8_added_1 24 rfl rfl
theorem dX8_added_0 : decode cX8_added 0 = .ok (.aload_n 0, 1) := dk_42 (dk_at dksX8_added_0 0 rfl rfl)
theorem dX8_added_1 : decode cX8_added 1 = .ok (.invokevirtual 246, 3) := dk_182 0 246 (dk_at dksX8_added_0 1 rfl rfl)
theorem dX8_added_4 : decode cX8_added 4 = .ok (.istore_n 1, 1) := dk_60 (dk_at dksX8_added_0 4 rfl rfl)
theorem dX8_added_5 : decode cX8_added 5 = .ok (.aload_n 0, 1) := dk_42 (dk_at dksX8_added_0 5 rfl rfl)
theorem dX8_added_6 : decode cX8_added 6 = .ok (.bipush 43, 2) := dk_16 43 (dk_at dksX8_added_0 6 rfl rfl)
theorem dX8_added_8 : decode cX8_added 8 = .ok (.invokevirtual 229, 3) := dk_182 0 229 (dk_at dksX8_added_0 8 rfl rfl)
theorem dX8_added_11 : decode cX8_added 11 = .ok (.ifCond .ne 12, 3) := dk_154 0 12 (dk_at dksX8_added_0 11 rfl rfl)
theorem dX8_added_14 : decode cX8_added 14 = .ok (.aload_n 0, 1) := dk_42 (dk_at dksX8_added_0 14 rfl rfl)
theorem dX8_added_15 : decode cX8_added 15 = .ok (.bipush 45, 2) := dk_16 45 (dk_at dksX8_added_0 15 rfl rfl)
theorem dX8_added_17 : decode cX8_added 17 = .ok (.invokevirtual 229, 3) := dk_182 0 229 (dk_at dksX8_added_0 17 rfl rfl)
theorem dX8_added_20 : decode cX8_added 20 = .ok (.ifCond .eq 46, 3) := dk_153 0 46 (dk_at dksX8_added_0 20 rfl rfl)
theorem dX8_added_23 : decode cX8_added 23 = .ok (.aload_n 0, 1) := dk_42 (dk_at dksX8_added_0 23 rfl rfl)
theorem dX8_added_24 : decode cX8_added 24 = .ok (.getfield 182, 3) := dk_180 0 182 (dk_at dksX8_added_1 0 rfl rfl)
theorem dX8_added_27 : decode cX8_added 27 = .ok (.ldc2_w 249, 3) := dk_20 0 249 (dk_at dksX8_added_1 3 rfl rfl)
theorem dX8_added_30 : decode cX8_added 30 = .ok (.lcmp, 1) := dk_148 (dk_at dksX8_added_1 6 rfl rfl)
theorem dX8_added_31 : decode cX8_added 31 = .ok (.ifCond .ne 7, 3) := dk_154 0 7 (dk_at dksX8_added_1 7 rfl rfl)
theorem dX8_added_34 : decode cX8_added 34 = .ok (.iconst 1, 1) := dk_4 (dk_at dksX8_added_1 10 rfl rfl)
theorem dX8_added_35 : decode cX8_added 35 = .ok (.goto 4, 3) := dk_167 0 4 (dk_at dksX8_added_1 11 rfl rfl)
theorem dX8_added_38 : decode cX8_added 38 = .ok (.iconst 0, 1) := dk_3 (dk_at dksX8_added_1 14 rfl rfl)
theorem dX8_added_39 : decode cX8_added 39 = .ok (.istore_n 2, 1) := dk_61 (dk_at dksX8_added_1 15 rfl rfl)
theorem dX8_added_40 : decode cX8_added 40 = .ok (.aload_n 0, 1) := dk_42 (dk_at dksX8_added_1 16 rfl rfl)
theorem dX8_added_41 : decode cX8_added 41 = .ok (.invokevirtual 204, 3) := dk_182 0 204 (dk_at dksX8_added_1 17 rfl rfl)
theorem dX8_added_44 : decode cX8_added 44 = .ok (.aload_n 0, 1) := dk_42 (dk_at dksX8_added_1 20 rfl rfl)
theorem dX8_added_45 : decode cX8_added 45 = .ok (.invokevirtual 246, 3) := dk_182 0 246 (dk_at dksX8_added_1 21 rfl rfl)
theorem dX8_added_48 : decode cX8_added 48 = .ok (.istore_n 3, 1) := dk_62 (dk_at dksX8_added_2 0 rfl rfl)
theorem dX8_added_49 : decode cX8_added 49 = .ok (.iload_n 2, 1) := dk_28 (dk_at dksX8_added_2 1 rfl rfl)
theorem dX8_added_50 : decode cX8_added 50 = .ok (.ifCond .eq 9, 3) := dk_153 0 9 (dk_at dksX8_added_2 2 rfl rfl)
theorem dX8_added_53 : decode cX8_added 53 = .ok (.iload_n 1, 1) := dk_27 (dk_at dksX8_added_2 5 rfl rfl)
theorem dX8_added_54 : decode cX8_added 54 = .ok (.iload_n 3, 1) := dk_29 (dk_at dksX8_added_2 6 rfl rfl)
theorem dX8_added_55 : decode cX8_added 55 = .ok (.iadd, 1) := dk_96 (dk_at dksX8_added_2 7 rfl rfl)
theorem dX8_added_56 : decode cX8_added 56 = .ok (.goto 6, 3) := dk_167 0 6 (dk_at dksX8_added_2 8 rfl rfl)
theorem dX8_added_59 : decode cX8_added 59 = .ok (.iload_n 1, 1) := dk_27 (dk_at dksX8_added_2 11 rfl rfl)
theorem dX8_added_60 : decode cX8_added 60 = .ok (.iload_n 3, 1) := dk_29 (dk_at dksX8_added_2 12 rfl rfl)
theorem dX8_added_61 : decode cX8_added 61 = .ok (.isub, 1) := dk_100 (dk_at dksX8_added_2 13 rfl rfl)
theorem dX8_added_62 : decode cX8_added 62 = .ok (.istore_n 1, 1) := dk_60 (dk_at dksX8_added_2 14 rfl rfl)
theorem dX8_added_63 : decode cX8_added 63 = .ok (.goto (-58), 3) := dk_167 255 198 (dk_at dksX8_added_2 15 rfl rfl)
theorem dX8_added_66 : decode cX8_added 66 = .ok (.iload_n 1, 1) := dk_27 (dk_at dksX8_added_2 18 rfl rfl)
theorem dX8_added_67 : decode cX8_added 67 = .ok (.ireturn, 1) := dk_172 (dk_at dksX8_added_2 19 rfl rfl)
abbrev cX8_term : ByteArray := prog_16_method_28_code
def yX8_term : MethodName := ⟨RX8, "term", "()I"⟩
def dkwX8_term_1 : List UInt8 := [60, 167, 255, 236, 27, 172]
abbrev dktX8_term_1 : List UInt8 := dkwX8_term_1 ++ []
def dkwX8_term_0 : List UInt8 := [42, 182, 0, 236, 60, 42, 16, 42, 182, 0, 229, 153, 0, 17, 42, 182, 0, 204, 27, 42, 182, 0, 236, 104]
abbrev dktX8_term_0 : List UInt8 := dkwX8_term_0 ++ dktX8_term_1
theorem dksX8_term_0 : cX8_term.data.toList.drop 0 = dktX8_term_0 := by decide +kernel
theorem dksX8_term_1 : cX8_term.data.toList.drop 24 = dktX8_term_1 := dk_seg dksX8_term_0 24 rfl rfl
theorem dX8_term_0 : decode cX8_term 0 = .ok (.aload_n 0, 1) := dk_42 (dk_at dksX8_term_0 0 rfl rfl)
theorem dX8_term_1 : decode cX8_term 1 = .ok (.invokevirtual 236, 3) := dk_182 0 236 (dk_at dksX8_term_0 1 rfl rfl)
theorem dX8_term_4 : decode cX8_term 4 = .ok (.istore_n 1, 1) := dk_60 (dk_at dksX8_term_0 4 rfl rfl)
theorem dX8_term_5 : decode cX8_term 5 = .ok (.aload_n 0, 1) := dk_42 (dk_at dksX8_term_0 5 rfl rfl)
theorem dX8_term_6 : decode cX8_term 6 = .ok (.bipush 42, 2) := dk_16 42 (dk_at dksX8_term_0 6 rfl rfl)
theorem dX8_term_8 : decode cX8_term 8 = .ok (.invokevirtual 229, 3) := dk_182 0 229 (dk_at dksX8_term_0 8 rfl rfl)
theorem dX8_term_11 : decode cX8_term 11 = .ok (.ifCond .eq 17, 3) := dk_153 0 17 (dk_at dksX8_term_0 11 rfl rfl)
theorem dX8_term_14 : decode cX8_term 14 = .ok (.aload_n 0, 1) := dk_42 (dk_at dksX8_term_0 14 rfl rfl)
theorem dX8_term_15 : decode cX8_term 15 = .ok (.invokevirtual 204, 3) := dk_182 0 204 (dk_at dksX8_term_0 15 rfl rfl)
theorem dX8_term_18 : decode cX8_term 18 = .ok (.iload_n 1, 1) := dk_27 (dk_at dksX8_term_0 18 rfl rfl)
theorem dX8_term_19 : decode cX8_term 19 = .ok (.aload_n 0, 1) := dk_42 (dk_at dksX8_term_0 19 rfl rfl)
theorem dX8_term_20 : decode cX8_term 20 = .ok (.invokevirtual 236, 3) := dk_182 0 236 (dk_at dksX8_term_0 20 rfl rfl)
theorem dX8_term_23 : decode cX8_term 23 = .ok (.imul, 1) := dk_104 (dk_at dksX8_term_0 23 rfl rfl)
theorem dX8_term_24 : decode cX8_term 24 = .ok (.istore_n 1, 1) := dk_60 (dk_at dksX8_term_1 0 rfl rfl)
theorem dX8_term_25 : decode cX8_term 25 = .ok (.goto (-20), 3) := dk_167 255 236 (dk_at dksX8_term_1 1 rfl rfl)
theorem dX8_term_28 : decode cX8_term 28 = .ok (.iload_n 1, 1) := dk_27 (dk_at dksX8_term_1 4 rfl rfl)
theorem dX8_term_29 : decode cX8_term 29 = .ok (.ireturn, 1) := dk_172 (dk_at dksX8_term_1 5 rfl rfl)
abbrev cX8_atom : ByteArray := prog_16_method_27_code
def yX8_atom : MethodName := ⟨RX8, "atom", "()I"⟩
def dkwX8_atom_6 : List UInt8 := [182, 0, 243, 60, 42, 180, 0, 188, 154, 0, 14, 42, 182, 0, 204, 167, 0, 7, 42, 182, 0, 201, 27, 172]
abbrev dktX8_atom_6 : List UInt8 := dkwX8_atom_6 ++ []
def dkwX8_atom_5 : List UInt8 := [182, 0, 204, 167, 0, 41, 42, 180, 0, 188, 154, 0, 30, 42, 180, 0, 171, 4, 160, 0, 22, 42]
abbrev dktX8_atom_5 : List UInt8 := dkwX8_atom_5 ++ dktX8_atom_6
def dkwX8_atom_4 : List UInt8 := [42, 180, 0, 188, 154, 0, 24, 42, 180, 0, 171, 5, 160, 0, 16, 42, 180, 0, 182, 136, 60, 42]
abbrev dktX8_atom_4 : List UInt8 := dkwX8_atom_4 ++ dktX8_atom_5
def dkwX8_atom_3 : List UInt8 := [42, 89, 180, 0, 198, 4, 100, 181, 0, 198, 42, 180, 0, 188, 154, 0, 76, 42, 182, 0, 204, 167, 0, 69]
abbrev dktX8_atom_3 : List UInt8 := dkwX8_atom_3 ++ dktX8_atom_4
def dkwX8_atom_2 : List UInt8 := [182, 0, 232, 153, 0, 111, 42, 182, 0, 240, 60, 42, 16, 41, 182, 0, 229, 154, 0, 7, 42, 182, 0, 201]
abbrev dktX8_atom_2 : List UInt8 := dkwX8_atom_2 ++ dktX8_atom_3
def dkwX8_atom_1 : List UInt8 := [42, 89, 180, 0, 198, 4, 100, 181, 0, 198, 167, 0, 127, 42, 16, 40, 182, 0, 229, 153, 0, 52, 42]
abbrev dktX8_atom_1 : List UInt8 := dkwX8_atom_1 ++ dktX8_atom_2
def dkwX8_atom_0 : List UInt8 := [3, 60, 42, 16, 45, 182, 0, 229, 153, 0, 29, 42, 182, 0, 232, 153, 0, 146, 42, 182, 0, 236, 116, 60]
abbrev dktX8_atom_0 : List UInt8 := dkwX8_atom_0 ++ dktX8_atom_1
theorem dksX8_atom_0 : cX8_atom.data.toList.drop 0 = dktX8_atom_0 := by decide +kernel
theorem dksX8_atom_1 : cX8_atom.data.toList.drop 24 = dktX8_atom_1 := dk_seg dksX8_atom_0 24 rfl rfl
theorem dksX8_atom_2 : cX8_atom.data.toList.drop 47 = dktX8_atom_2 := dk_seg dksX8_atom_1 23 rfl rfl
theorem dksX8_atom_3 : cX8_atom.data.toList.drop 71 = dktX8_atom_3 := dk_seg dksX8_atom_2 24 rfl rfl
theorem dksX8_atom_4 : cX8_atom.data.toList.drop 95 = dktX8_atom_4 := dk_seg dksX8_atom_3 24 rfl rfl
theorem dksX8_atom_5 : cX8_atom.data.toList.drop 117 = dktX8_atom_5 := dk_seg dksX8_atom_4 22 rfl rfl
theorem dksX8_atom_6 : cX8_atom.data.toList.drop 139 = dktX8_atom_6 := dk_seg dksX8_atom_5 22 rfl rfl
theorem dX8_atom_0 : decode cX8_atom 0 = .ok (.iconst 0, 1) := dk_3 (dk_at dksX8_atom_0 0 rfl rfl)
theorem dX8_atom_1 : decode cX8_atom 1 = .ok (.istore_n 1, 1) := dk_60 (dk_at dksX8_atom_0 1 rfl rfl)
theorem dX8_atom_2 : decode cX8_atom 2 = .ok (.aload_n 0, 1) := dk_42 (dk_at dksX8_atom_0 2 rfl rfl)
theorem dX8_atom_3 : decode cX8_atom 3 = .ok (.bipush 45, 2) := dk_16 45 (dk_at dksX8_atom_0 3 rfl rfl)
theorem dX8_atom_5 : decode cX8_atom 5 = .ok (.invokevirtual 229, 3) := dk_182 0 229 (dk_at dksX8_atom_0 5 rfl rfl)
theorem dX8_atom_8 : decode cX8_atom 8 = .ok (.ifCond .eq 29, 3) := dk_153 0 29 (dk_at dksX8_atom_0 8 rfl rfl)
theorem dX8_atom_11 : decode cX8_atom 11 = .ok (.aload_n 0, 1) := dk_42 (dk_at dksX8_atom_0 11 rfl rfl)
theorem dX8_atom_12 : decode cX8_atom 12 = .ok (.invokevirtual 232, 3) := dk_182 0 232 (dk_at dksX8_atom_0 12 rfl rfl)
theorem dX8_atom_15 : decode cX8_atom 15 = .ok (.ifCond .eq 146, 3) := dk_153 0 146 (dk_at dksX8_atom_0 15 rfl rfl)
theorem dX8_atom_18 : decode cX8_atom 18 = .ok (.aload_n 0, 1) := dk_42 (dk_at dksX8_atom_0 18 rfl rfl)
theorem dX8_atom_19 : decode cX8_atom 19 = .ok (.invokevirtual 236, 3) := dk_182 0 236 (dk_at dksX8_atom_0 19 rfl rfl)
theorem dX8_atom_22 : decode cX8_atom 22 = .ok (.ineg, 1) := dk_116 (dk_at dksX8_atom_0 22 rfl rfl)
theorem dX8_atom_23 : decode cX8_atom 23 = .ok (.istore_n 1, 1) := dk_60 (dk_at dksX8_atom_0 23 rfl rfl)
theorem dX8_atom_24 : decode cX8_atom 24 = .ok (.aload_n 0, 1) := dk_42 (dk_at dksX8_atom_1 0 rfl rfl)
theorem dX8_atom_25 : decode cX8_atom 25 = .ok (.dup, 1) := dk_89 (dk_at dksX8_atom_1 1 rfl rfl)
theorem dX8_atom_26 : decode cX8_atom 26 = .ok (.getfield 198, 3) := dk_180 0 198 (dk_at dksX8_atom_1 2 rfl rfl)
theorem dX8_atom_29 : decode cX8_atom 29 = .ok (.iconst 1, 1) := dk_4 (dk_at dksX8_atom_1 5 rfl rfl)
theorem dX8_atom_30 : decode cX8_atom 30 = .ok (.isub, 1) := dk_100 (dk_at dksX8_atom_1 6 rfl rfl)
theorem dX8_atom_31 : decode cX8_atom 31 = .ok (.putfield 198, 3) := dk_181 0 198 (dk_at dksX8_atom_1 7 rfl rfl)
theorem dX8_atom_34 : decode cX8_atom 34 = .ok (.goto 127, 3) := dk_167 0 127 (dk_at dksX8_atom_1 10 rfl rfl)
theorem dX8_atom_37 : decode cX8_atom 37 = .ok (.aload_n 0, 1) := dk_42 (dk_at dksX8_atom_1 13 rfl rfl)
theorem dX8_atom_38 : decode cX8_atom 38 = .ok (.bipush 40, 2) := dk_16 40 (dk_at dksX8_atom_1 14 rfl rfl)
theorem dX8_atom_40 : decode cX8_atom 40 = .ok (.invokevirtual 229, 3) := dk_182 0 229 (dk_at dksX8_atom_1 16 rfl rfl)
theorem dX8_atom_43 : decode cX8_atom 43 = .ok (.ifCond .eq 52, 3) := dk_153 0 52 (dk_at dksX8_atom_1 19 rfl rfl)
theorem dX8_atom_46 : decode cX8_atom 46 = .ok (.aload_n 0, 1) := dk_42 (dk_at dksX8_atom_1 22 rfl rfl)
theorem dX8_atom_47 : decode cX8_atom 47 = .ok (.invokevirtual 232, 3) := dk_182 0 232 (dk_at dksX8_atom_2 0 rfl rfl)
theorem dX8_atom_50 : decode cX8_atom 50 = .ok (.ifCond .eq 111, 3) := dk_153 0 111 (dk_at dksX8_atom_2 3 rfl rfl)
theorem dX8_atom_53 : decode cX8_atom 53 = .ok (.aload_n 0, 1) := dk_42 (dk_at dksX8_atom_2 6 rfl rfl)
theorem dX8_atom_54 : decode cX8_atom 54 = .ok (.invokevirtual 240, 3) := dk_182 0 240 (dk_at dksX8_atom_2 7 rfl rfl)
theorem dX8_atom_57 : decode cX8_atom 57 = .ok (.istore_n 1, 1) := dk_60 (dk_at dksX8_atom_2 10 rfl rfl)
theorem dX8_atom_58 : decode cX8_atom 58 = .ok (.aload_n 0, 1) := dk_42 (dk_at dksX8_atom_2 11 rfl rfl)
theorem dX8_atom_59 : decode cX8_atom 59 = .ok (.bipush 41, 2) := dk_16 41 (dk_at dksX8_atom_2 12 rfl rfl)
theorem dX8_atom_61 : decode cX8_atom 61 = .ok (.invokevirtual 229, 3) := dk_182 0 229 (dk_at dksX8_atom_2 14 rfl rfl)
theorem dX8_atom_64 : decode cX8_atom 64 = .ok (.ifCond .ne 7, 3) := dk_154 0 7 (dk_at dksX8_atom_2 17 rfl rfl)
theorem dX8_atom_67 : decode cX8_atom 67 = .ok (.aload_n 0, 1) := dk_42 (dk_at dksX8_atom_2 20 rfl rfl)
theorem dX8_atom_68 : decode cX8_atom 68 = .ok (.invokevirtual 201, 3) := dk_182 0 201 (dk_at dksX8_atom_2 21 rfl rfl)
theorem dX8_atom_71 : decode cX8_atom 71 = .ok (.aload_n 0, 1) := dk_42 (dk_at dksX8_atom_3 0 rfl rfl)
theorem dX8_atom_72 : decode cX8_atom 72 = .ok (.dup, 1) := dk_89 (dk_at dksX8_atom_3 1 rfl rfl)
theorem dX8_atom_73 : decode cX8_atom 73 = .ok (.getfield 198, 3) := dk_180 0 198 (dk_at dksX8_atom_3 2 rfl rfl)
theorem dX8_atom_76 : decode cX8_atom 76 = .ok (.iconst 1, 1) := dk_4 (dk_at dksX8_atom_3 5 rfl rfl)
theorem dX8_atom_77 : decode cX8_atom 77 = .ok (.isub, 1) := dk_100 (dk_at dksX8_atom_3 6 rfl rfl)
theorem dX8_atom_78 : decode cX8_atom 78 = .ok (.putfield 198, 3) := dk_181 0 198 (dk_at dksX8_atom_3 7 rfl rfl)
theorem dX8_atom_81 : decode cX8_atom 81 = .ok (.aload_n 0, 1) := dk_42 (dk_at dksX8_atom_3 10 rfl rfl)
theorem dX8_atom_82 : decode cX8_atom 82 = .ok (.getfield 188, 3) := dk_180 0 188 (dk_at dksX8_atom_3 11 rfl rfl)
theorem dX8_atom_85 : decode cX8_atom 85 = .ok (.ifCond .ne 76, 3) := dk_154 0 76 (dk_at dksX8_atom_3 14 rfl rfl)
theorem dX8_atom_88 : decode cX8_atom 88 = .ok (.aload_n 0, 1) := dk_42 (dk_at dksX8_atom_3 17 rfl rfl)
theorem dX8_atom_89 : decode cX8_atom 89 = .ok (.invokevirtual 204, 3) := dk_182 0 204 (dk_at dksX8_atom_3 18 rfl rfl)
theorem dX8_atom_92 : decode cX8_atom 92 = .ok (.goto 69, 3) := dk_167 0 69 (dk_at dksX8_atom_3 21 rfl rfl)
theorem dX8_atom_95 : decode cX8_atom 95 = .ok (.aload_n 0, 1) := dk_42 (dk_at dksX8_atom_4 0 rfl rfl)
theorem dX8_atom_96 : decode cX8_atom 96 = .ok (.getfield 188, 3) := dk_180 0 188 (dk_at dksX8_atom_4 1 rfl rfl)
theorem dX8_atom_99 : decode cX8_atom 99 = .ok (.ifCond .ne 24, 3) := dk_154 0 24 (dk_at dksX8_atom_4 4 rfl rfl)
theorem dX8_atom_102 : decode cX8_atom 102 = .ok (.aload_n 0, 1) := dk_42 (dk_at dksX8_atom_4 7 rfl rfl)
theorem dX8_atom_103 : decode cX8_atom 103 = .ok (.getfield 171, 3) := dk_180 0 171 (dk_at dksX8_atom_4 8 rfl rfl)
theorem dX8_atom_106 : decode cX8_atom 106 = .ok (.iconst 2, 1) := dk_5 (dk_at dksX8_atom_4 11 rfl rfl)
theorem dX8_atom_107 : decode cX8_atom 107 = .ok (.if_icmp .ne 16, 3) := dk_160 0 16 (dk_at dksX8_atom_4 12 rfl rfl)
theorem dX8_atom_110 : decode cX8_atom 110 = .ok (.aload_n 0, 1) := dk_42 (dk_at dksX8_atom_4 15 rfl rfl)
theorem dX8_atom_111 : decode cX8_atom 111 = .ok (.getfield 182, 3) := dk_180 0 182 (dk_at dksX8_atom_4 16 rfl rfl)
theorem dX8_atom_114 : decode cX8_atom 114 = .ok (.l2i, 1) := dk_136 (dk_at dksX8_atom_4 19 rfl rfl)
theorem dX8_atom_115 : decode cX8_atom 115 = .ok (.istore_n 1, 1) := dk_60 (dk_at dksX8_atom_4 20 rfl rfl)
theorem dX8_atom_116 : decode cX8_atom 116 = .ok (.aload_n 0, 1) := dk_42 (dk_at dksX8_atom_4 21 rfl rfl)
theorem dX8_atom_117 : decode cX8_atom 117 = .ok (.invokevirtual 204, 3) := dk_182 0 204 (dk_at dksX8_atom_5 0 rfl rfl)
theorem dX8_atom_120 : decode cX8_atom 120 = .ok (.goto 41, 3) := dk_167 0 41 (dk_at dksX8_atom_5 3 rfl rfl)
theorem dX8_atom_123 : decode cX8_atom 123 = .ok (.aload_n 0, 1) := dk_42 (dk_at dksX8_atom_5 6 rfl rfl)
theorem dX8_atom_124 : decode cX8_atom 124 = .ok (.getfield 188, 3) := dk_180 0 188 (dk_at dksX8_atom_5 7 rfl rfl)
theorem dX8_atom_127 : decode cX8_atom 127 = .ok (.ifCond .ne 30, 3) := dk_154 0 30 (dk_at dksX8_atom_5 10 rfl rfl)
theorem dX8_atom_130 : decode cX8_atom 130 = .ok (.aload_n 0, 1) := dk_42 (dk_at dksX8_atom_5 13 rfl rfl)
theorem dX8_atom_131 : decode cX8_atom 131 = .ok (.getfield 171, 3) := dk_180 0 171 (dk_at dksX8_atom_5 14 rfl rfl)
theorem dX8_atom_134 : decode cX8_atom 134 = .ok (.iconst 1, 1) := dk_4 (dk_at dksX8_atom_5 17 rfl rfl)
theorem dX8_atom_135 : decode cX8_atom 135 = .ok (.if_icmp .ne 22, 3) := dk_160 0 22 (dk_at dksX8_atom_5 18 rfl rfl)
theorem dX8_atom_138 : decode cX8_atom 138 = .ok (.aload_n 0, 1) := dk_42 (dk_at dksX8_atom_5 21 rfl rfl)
theorem dX8_atom_139 : decode cX8_atom 139 = .ok (.invokevirtual 243, 3) := dk_182 0 243 (dk_at dksX8_atom_6 0 rfl rfl)
theorem dX8_atom_142 : decode cX8_atom 142 = .ok (.istore_n 1, 1) := dk_60 (dk_at dksX8_atom_6 3 rfl rfl)
theorem dX8_atom_143 : decode cX8_atom 143 = .ok (.aload_n 0, 1) := dk_42 (dk_at dksX8_atom_6 4 rfl rfl)
theorem dX8_atom_144 : decode cX8_atom 144 = .ok (.getfield 188, 3) := dk_180 0 188 (dk_at dksX8_atom_6 5 rfl rfl)
theorem dX8_atom_147 : decode cX8_atom 147 = .ok (.ifCond .ne 14, 3) := dk_154 0 14 (dk_at dksX8_atom_6 8 rfl rfl)
theorem dX8_atom_150 : decode cX8_atom 150 = .ok (.aload_n 0, 1) := dk_42 (dk_at dksX8_atom_6 11 rfl rfl)
theorem dX8_atom_151 : decode cX8_atom 151 = .ok (.invokevirtual 204, 3) := dk_182 0 204 (dk_at dksX8_atom_6 12 rfl rfl)
theorem dX8_atom_154 : decode cX8_atom 154 = .ok (.goto 7, 3) := dk_167 0 7 (dk_at dksX8_atom_6 15 rfl rfl)
theorem dX8_atom_157 : decode cX8_atom 157 = .ok (.aload_n 0, 1) := dk_42 (dk_at dksX8_atom_6 18 rfl rfl)
theorem dX8_atom_158 : decode cX8_atom 158 = .ok (.invokevirtual 201, 3) := dk_182 0 201 (dk_at dksX8_atom_6 19 rfl rfl)
theorem dX8_atom_161 : decode cX8_atom 161 = .ok (.iload_n 1, 1) := dk_27 (dk_at dksX8_atom_6 22 rfl rfl)
theorem dX8_atom_162 : decode cX8_atom 162 = .ok (.ireturn, 1) := dk_172 (dk_at dksX8_atom_6 23 rfl rfl)
abbrev cX8_isSign : ByteArray := prog_16_method_24_code
def yX8_isSign : MethodName := ⟨RX8, "isSign", "(I)Z"⟩
def dkwX8_isSign_1 : List UInt8 := [154, 0, 7, 4, 167, 0, 4, 3, 172]
abbrev dktX8_isSign_1 : List UInt8 := dkwX8_isSign_1 ++ []
def dkwX8_isSign_0 : List UInt8 := [42, 180, 0, 188, 154, 0, 25, 42, 180, 0, 171, 6, 160, 0, 17, 42, 180, 0, 182, 27, 133, 148]
abbrev dktX8_isSign_0 : List UInt8 := dkwX8_isSign_0 ++ dktX8_isSign_1
theorem dksX8_isSign_0 : cX8_isSign.data.toList.drop 0 = dktX8_isSign_0 := by decide +kernel
theorem dksX8_isSign_1 : cX8_isSign.data.toList.drop 22 = dktX8_isSign_1 := dk_seg dksX8_isSign_0 22 rfl rfl
theorem dX8_isSign_0 : decode cX8_isSign 0 = .ok (.aload_n 0, 1) := dk_42 (dk_at dksX8_isSign_0 0 rfl rfl)
theorem dX8_isSign_1 : decode cX8_isSign 1 = .ok (.getfield 188, 3) := dk_180 0 188 (dk_at dksX8_isSign_0 1 rfl rfl)
theorem dX8_isSign_4 : decode cX8_isSign 4 = .ok (.ifCond .ne 25, 3) := dk_154 0 25 (dk_at dksX8_isSign_0 4 rfl rfl)
theorem dX8_isSign_7 : decode cX8_isSign 7 = .ok (.aload_n 0, 1) := dk_42 (dk_at dksX8_isSign_0 7 rfl rfl)
theorem dX8_isSign_8 : decode cX8_isSign 8 = .ok (.getfield 171, 3) := dk_180 0 171 (dk_at dksX8_isSign_0 8 rfl rfl)
theorem dX8_isSign_11 : decode cX8_isSign 11 = .ok (.iconst 3, 1) := dk_6 (dk_at dksX8_isSign_0 11 rfl rfl)
theorem dX8_isSign_12 : decode cX8_isSign 12 = .ok (.if_icmp .ne 17, 3) := dk_160 0 17 (dk_at dksX8_isSign_0 12 rfl rfl)
theorem dX8_isSign_15 : decode cX8_isSign 15 = .ok (.aload_n 0, 1) := dk_42 (dk_at dksX8_isSign_0 15 rfl rfl)
theorem dX8_isSign_16 : decode cX8_isSign 16 = .ok (.getfield 182, 3) := dk_180 0 182 (dk_at dksX8_isSign_0 16 rfl rfl)
theorem dX8_isSign_19 : decode cX8_isSign 19 = .ok (.iload_n 1, 1) := dk_27 (dk_at dksX8_isSign_0 19 rfl rfl)
theorem dX8_isSign_20 : decode cX8_isSign 20 = .ok (.i2l, 1) := dk_133 (dk_at dksX8_isSign_0 20 rfl rfl)
theorem dX8_isSign_21 : decode cX8_isSign 21 = .ok (.lcmp, 1) := dk_148 (dk_at dksX8_isSign_0 21 rfl rfl)
theorem dX8_isSign_22 : decode cX8_isSign 22 = .ok (.ifCond .ne 7, 3) := dk_154 0 7 (dk_at dksX8_isSign_1 0 rfl rfl)
theorem dX8_isSign_25 : decode cX8_isSign 25 = .ok (.iconst 1, 1) := dk_4 (dk_at dksX8_isSign_1 3 rfl rfl)
theorem dX8_isSign_26 : decode cX8_isSign 26 = .ok (.goto 4, 3) := dk_167 0 4 (dk_at dksX8_isSign_1 4 rfl rfl)
theorem dX8_isSign_29 : decode cX8_isSign 29 = .ok (.iconst 0, 1) := dk_3 (dk_at dksX8_isSign_1 7 rfl rfl)
theorem dX8_isSign_30 : decode cX8_isSign 30 = .ok (.ireturn, 1) := dk_172 (dk_at dksX8_isSign_1 8 rfl rfl)
abbrev cX8_name : ByteArray := prog_16_method_26_code
def yX8_name : MethodName := ⟨RX8, "name", "()I"⟩
def dkwX8_name_6 : List UInt8 := [153, 0, 8, 42, 180, 0, 226, 172, 42, 182, 0, 201, 3, 172]
abbrev dktX8_name_6 : List UInt8 := dkwX8_name_6 ++ []
def dkwX8_name_5 : List UInt8 := [180, 0, 223, 172, 42, 16, 98, 16, 101, 16, 116, 16, 119, 16, 101, 16, 101, 16, 110, 3, 182, 0, 207]
abbrev dktX8_name_5 : List UInt8 := dkwX8_name_5 ++ dktX8_name_6
def dkwX8_name_4 : List UInt8 := [172, 42, 16, 111, 16, 112, 16, 101, 16, 110, 16, 105, 16, 110, 16, 103, 3, 182, 0, 207, 153, 0, 8, 42]
abbrev dktX8_name_4 : List UInt8 := dkwX8_name_4 ++ dktX8_name_5
def dkwX8_name_3 : List UInt8 := [16, 110, 16, 117, 16, 109, 16, 98, 16, 101, 16, 114, 3, 3, 182, 0, 207, 153, 0, 8, 42, 180, 0, 220]
abbrev dktX8_name_3 : List UInt8 := dkwX8_name_3 ++ dktX8_name_4
def dkwX8_name_2 : List UInt8 := [16, 119, 16, 101, 16, 116, 3, 3, 3, 3, 3, 182, 0, 207, 153, 0, 8, 42, 180, 0, 217, 172, 42]
abbrev dktX8_name_2 : List UInt8 := dkwX8_name_2 ++ dktX8_name_3
def dkwX8_name_1 : List UInt8 := [42, 16, 100, 16, 97, 16, 121, 3, 3, 3, 3, 3, 182, 0, 207, 153, 0, 8, 42, 180, 0, 214, 172, 42]
abbrev dktX8_name_1 : List UInt8 := dkwX8_name_1 ++ dktX8_name_2
def dkwX8_name_0 : List UInt8 := [42, 16, 104, 16, 111, 16, 117, 16, 114, 3, 3, 3, 3, 182, 0, 207, 153, 0, 8, 42, 180, 0, 211, 172]
abbrev dktX8_name_0 : List UInt8 := dkwX8_name_0 ++ dktX8_name_1
theorem dksX8_name_0 : cX8_name.data.toList.drop 0 = dktX8_name_0 := by decide +kernel
theorem dksX8_name_1 : cX8_name.data.toList.drop 24 = dktX8_name_1 := dk_seg dksX8_name_0 24 rfl rfl
theorem dksX8_name_2 : cX8_name.data.toList.drop 48 = dktX8_name_2 := dk_seg dksX8_name_1 24 rfl rfl
theorem dksX8_name_3 : cX8_name.data.toList.drop 71 = dktX8_name_3 := dk_seg dksX8_name_2 23 rfl rfl
theorem dksX8_name_4 : cX8_name.data.toList.drop 95 = dktX8_name_4 := dk_seg dksX8_name_3 24 rfl rfl
theorem dksX8_name_5 : cX8_name.data.toList.drop 119 = dktX8_name_5 := dk_seg dksX8_name_4 24 rfl rfl
theorem dksX8_name_6 : cX8_name.data.toList.drop 142 = dktX8_name_6 := dk_seg dksX8_name_5 23 rfl rfl
theorem dX8_name_0 : decode cX8_name 0 = .ok (.aload_n 0, 1) := dk_42 (dk_at dksX8_name_0 0 rfl rfl)
theorem dX8_name_1 : decode cX8_name 1 = .ok (.bipush 104, 2) := dk_16 104 (dk_at dksX8_name_0 1 rfl rfl)
theorem dX8_name_3 : decode cX8_name 3 = .ok (.bipush 111, 2) := dk_16 111 (dk_at dksX8_name_0 3 rfl rfl)
theorem dX8_name_5 : decode cX8_name 5 = .ok (.bipush 117, 2) := dk_16 117 (dk_at dksX8_name_0 5 rfl rfl)
theorem dX8_name_7 : decode cX8_name 7 = .ok (.bipush 114, 2) := dk_16 114 (dk_at dksX8_name_0 7 rfl rfl)
theorem dX8_name_9 : decode cX8_name 9 = .ok (.iconst 0, 1) := dk_3 (dk_at dksX8_name_0 9 rfl rfl)
theorem dX8_name_10 : decode cX8_name 10 = .ok (.iconst 0, 1) := dk_3 (dk_at dksX8_name_0 10 rfl rfl)
theorem dX8_name_11 : decode cX8_name 11 = .ok (.iconst 0, 1) := dk_3 (dk_at dksX8_name_0 11 rfl rfl)
theorem dX8_name_12 : decode cX8_name 12 = .ok (.iconst 0, 1) := dk_3 (dk_at dksX8_name_0 12 rfl rfl)
theorem dX8_name_13 : decode cX8_name 13 = .ok (.invokevirtual 207, 3) := dk_182 0 207 (dk_at dksX8_name_0 13 rfl rfl)
theorem dX8_name_16 : decode cX8_name 16 = .ok (.ifCond .eq 8, 3) := dk_153 0 8 (dk_at dksX8_name_0 16 rfl rfl)
theorem dX8_name_19 : decode cX8_name 19 = .ok (.aload_n 0, 1) := dk_42 (dk_at dksX8_name_0 19 rfl rfl)
theorem dX8_name_20 : decode cX8_name 20 = .ok (.getfield 211, 3) := dk_180 0 211 (dk_at dksX8_name_0 20 rfl rfl)
theorem dX8_name_23 : decode cX8_name 23 = .ok (.ireturn, 1) := dk_172 (dk_at dksX8_name_0 23 rfl rfl)
theorem dX8_name_24 : decode cX8_name 24 = .ok (.aload_n 0, 1) := dk_42 (dk_at dksX8_name_1 0 rfl rfl)
theorem dX8_name_25 : decode cX8_name 25 = .ok (.bipush 100, 2) := dk_16 100 (dk_at dksX8_name_1 1 rfl rfl)
theorem dX8_name_27 : decode cX8_name 27 = .ok (.bipush 97, 2) := dk_16 97 (dk_at dksX8_name_1 3 rfl rfl)
theorem dX8_name_29 : decode cX8_name 29 = .ok (.bipush 121, 2) := dk_16 121 (dk_at dksX8_name_1 5 rfl rfl)
theorem dX8_name_31 : decode cX8_name 31 = .ok (.iconst 0, 1) := dk_3 (dk_at dksX8_name_1 7 rfl rfl)
theorem dX8_name_32 : decode cX8_name 32 = .ok (.iconst 0, 1) := dk_3 (dk_at dksX8_name_1 8 rfl rfl)
theorem dX8_name_33 : decode cX8_name 33 = .ok (.iconst 0, 1) := dk_3 (dk_at dksX8_name_1 9 rfl rfl)
theorem dX8_name_34 : decode cX8_name 34 = .ok (.iconst 0, 1) := dk_3 (dk_at dksX8_name_1 10 rfl rfl)
theorem dX8_name_35 : decode cX8_name 35 = .ok (.iconst 0, 1) := dk_3 (dk_at dksX8_name_1 11 rfl rfl)
theorem dX8_name_36 : decode cX8_name 36 = .ok (.invokevirtual 207, 3) := dk_182 0 207 (dk_at dksX8_name_1 12 rfl rfl)
theorem dX8_name_39 : decode cX8_name 39 = .ok (.ifCond .eq 8, 3) := dk_153 0 8 (dk_at dksX8_name_1 15 rfl rfl)
theorem dX8_name_42 : decode cX8_name 42 = .ok (.aload_n 0, 1) := dk_42 (dk_at dksX8_name_1 18 rfl rfl)
theorem dX8_name_43 : decode cX8_name 43 = .ok (.getfield 214, 3) := dk_180 0 214 (dk_at dksX8_name_1 19 rfl rfl)
theorem dX8_name_46 : decode cX8_name 46 = .ok (.ireturn, 1) := dk_172 (dk_at dksX8_name_1 22 rfl rfl)
theorem dX8_name_47 : decode cX8_name 47 = .ok (.aload_n 0, 1) := dk_42 (dk_at dksX8_name_1 23 rfl rfl)
theorem dX8_name_48 : decode cX8_name 48 = .ok (.bipush 119, 2) := dk_16 119 (dk_at dksX8_name_2 0 rfl rfl)
theorem dX8_name_50 : decode cX8_name 50 = .ok (.bipush 101, 2) := dk_16 101 (dk_at dksX8_name_2 2 rfl rfl)
theorem dX8_name_52 : decode cX8_name 52 = .ok (.bipush 116, 2) := dk_16 116 (dk_at dksX8_name_2 4 rfl rfl)
theorem dX8_name_54 : decode cX8_name 54 = .ok (.iconst 0, 1) := dk_3 (dk_at dksX8_name_2 6 rfl rfl)
theorem dX8_name_55 : decode cX8_name 55 = .ok (.iconst 0, 1) := dk_3 (dk_at dksX8_name_2 7 rfl rfl)
theorem dX8_name_56 : decode cX8_name 56 = .ok (.iconst 0, 1) := dk_3 (dk_at dksX8_name_2 8 rfl rfl)
theorem dX8_name_57 : decode cX8_name 57 = .ok (.iconst 0, 1) := dk_3 (dk_at dksX8_name_2 9 rfl rfl)
theorem dX8_name_58 : decode cX8_name 58 = .ok (.iconst 0, 1) := dk_3 (dk_at dksX8_name_2 10 rfl rfl)
theorem dX8_name_59 : decode cX8_name 59 = .ok (.invokevirtual 207, 3) := dk_182 0 207 (dk_at dksX8_name_2 11 rfl rfl)
theorem dX8_name_62 : decode cX8_name 62 = .ok (.ifCond .eq 8, 3) := dk_153 0 8 (dk_at dksX8_name_2 14 rfl rfl)
theorem dX8_name_65 : decode cX8_name 65 = .ok (.aload_n 0, 1) := dk_42 (dk_at dksX8_name_2 17 rfl rfl)
theorem dX8_name_66 : decode cX8_name 66 = .ok (.getfield 217, 3) := dk_180 0 217 (dk_at dksX8_name_2 18 rfl rfl)
theorem dX8_name_69 : decode cX8_name 69 = .ok (.ireturn, 1) := dk_172 (dk_at dksX8_name_2 21 rfl rfl)
theorem dX8_name_70 : decode cX8_name 70 = .ok (.aload_n 0, 1) := dk_42 (dk_at dksX8_name_2 22 rfl rfl)
theorem dX8_name_71 : decode cX8_name 71 = .ok (.bipush 110, 2) := dk_16 110 (dk_at dksX8_name_3 0 rfl rfl)
theorem dX8_name_73 : decode cX8_name 73 = .ok (.bipush 117, 2) := dk_16 117 (dk_at dksX8_name_3 2 rfl rfl)
theorem dX8_name_75 : decode cX8_name 75 = .ok (.bipush 109, 2) := dk_16 109 (dk_at dksX8_name_3 4 rfl rfl)
theorem dX8_name_77 : decode cX8_name 77 = .ok (.bipush 98, 2) := dk_16 98 (dk_at dksX8_name_3 6 rfl rfl)
theorem dX8_name_79 : decode cX8_name 79 = .ok (.bipush 101, 2) := dk_16 101 (dk_at dksX8_name_3 8 rfl rfl)
theorem dX8_name_81 : decode cX8_name 81 = .ok (.bipush 114, 2) := dk_16 114 (dk_at dksX8_name_3 10 rfl rfl)
theorem dX8_name_83 : decode cX8_name 83 = .ok (.iconst 0, 1) := dk_3 (dk_at dksX8_name_3 12 rfl rfl)
theorem dX8_name_84 : decode cX8_name 84 = .ok (.iconst 0, 1) := dk_3 (dk_at dksX8_name_3 13 rfl rfl)
theorem dX8_name_85 : decode cX8_name 85 = .ok (.invokevirtual 207, 3) := dk_182 0 207 (dk_at dksX8_name_3 14 rfl rfl)
theorem dX8_name_88 : decode cX8_name 88 = .ok (.ifCond .eq 8, 3) := dk_153 0 8 (dk_at dksX8_name_3 17 rfl rfl)
theorem dX8_name_91 : decode cX8_name 91 = .ok (.aload_n 0, 1) := dk_42 (dk_at dksX8_name_3 20 rfl rfl)
theorem dX8_name_92 : decode cX8_name 92 = .ok (.getfield 220, 3) := dk_180 0 220 (dk_at dksX8_name_3 21 rfl rfl)
theorem dX8_name_95 : decode cX8_name 95 = .ok (.ireturn, 1) := dk_172 (dk_at dksX8_name_4 0 rfl rfl)
theorem dX8_name_96 : decode cX8_name 96 = .ok (.aload_n 0, 1) := dk_42 (dk_at dksX8_name_4 1 rfl rfl)
theorem dX8_name_97 : decode cX8_name 97 = .ok (.bipush 111, 2) := dk_16 111 (dk_at dksX8_name_4 2 rfl rfl)
theorem dX8_name_99 : decode cX8_name 99 = .ok (.bipush 112, 2) := dk_16 112 (dk_at dksX8_name_4 4 rfl rfl)
theorem dX8_name_101 : decode cX8_name 101 = .ok (.bipush 101, 2) := dk_16 101 (dk_at dksX8_name_4 6 rfl rfl)
theorem dX8_name_103 : decode cX8_name 103 = .ok (.bipush 110, 2) := dk_16 110 (dk_at dksX8_name_4 8 rfl rfl)
theorem dX8_name_105 : decode cX8_name 105 = .ok (.bipush 105, 2) := dk_16 105 (dk_at dksX8_name_4 10 rfl rfl)
theorem dX8_name_107 : decode cX8_name 107 = .ok (.bipush 110, 2) := dk_16 110 (dk_at dksX8_name_4 12 rfl rfl)
theorem dX8_name_109 : decode cX8_name 109 = .ok (.bipush 103, 2) := dk_16 103 (dk_at dksX8_name_4 14 rfl rfl)
theorem dX8_name_111 : decode cX8_name 111 = .ok (.iconst 0, 1) := dk_3 (dk_at dksX8_name_4 16 rfl rfl)
theorem dX8_name_112 : decode cX8_name 112 = .ok (.invokevirtual 207, 3) := dk_182 0 207 (dk_at dksX8_name_4 17 rfl rfl)
theorem dX8_name_115 : decode cX8_name 115 = .ok (.ifCond .eq 8, 3) := dk_153 0 8 (dk_at dksX8_name_4 20 rfl rfl)
theorem dX8_name_118 : decode cX8_name 118 = .ok (.aload_n 0, 1) := dk_42 (dk_at dksX8_name_4 23 rfl rfl)
theorem dX8_name_119 : decode cX8_name 119 = .ok (.getfield 223, 3) := dk_180 0 223 (dk_at dksX8_name_5 0 rfl rfl)
theorem dX8_name_122 : decode cX8_name 122 = .ok (.ireturn, 1) := dk_172 (dk_at dksX8_name_5 3 rfl rfl)
theorem dX8_name_123 : decode cX8_name 123 = .ok (.aload_n 0, 1) := dk_42 (dk_at dksX8_name_5 4 rfl rfl)
theorem dX8_name_124 : decode cX8_name 124 = .ok (.bipush 98, 2) := dk_16 98 (dk_at dksX8_name_5 5 rfl rfl)
theorem dX8_name_126 : decode cX8_name 126 = .ok (.bipush 101, 2) := dk_16 101 (dk_at dksX8_name_5 7 rfl rfl)
theorem dX8_name_128 : decode cX8_name 128 = .ok (.bipush 116, 2) := dk_16 116 (dk_at dksX8_name_5 9 rfl rfl)
theorem dX8_name_130 : decode cX8_name 130 = .ok (.bipush 119, 2) := dk_16 119 (dk_at dksX8_name_5 11 rfl rfl)
theorem dX8_name_132 : decode cX8_name 132 = .ok (.bipush 101, 2) := dk_16 101 (dk_at dksX8_name_5 13 rfl rfl)
theorem dX8_name_134 : decode cX8_name 134 = .ok (.bipush 101, 2) := dk_16 101 (dk_at dksX8_name_5 15 rfl rfl)
theorem dX8_name_136 : decode cX8_name 136 = .ok (.bipush 110, 2) := dk_16 110 (dk_at dksX8_name_5 17 rfl rfl)
theorem dX8_name_138 : decode cX8_name 138 = .ok (.iconst 0, 1) := dk_3 (dk_at dksX8_name_5 19 rfl rfl)
theorem dX8_name_139 : decode cX8_name 139 = .ok (.invokevirtual 207, 3) := dk_182 0 207 (dk_at dksX8_name_5 20 rfl rfl)
theorem dX8_name_142 : decode cX8_name 142 = .ok (.ifCond .eq 8, 3) := dk_153 0 8 (dk_at dksX8_name_6 0 rfl rfl)
theorem dX8_name_145 : decode cX8_name 145 = .ok (.aload_n 0, 1) := dk_42 (dk_at dksX8_name_6 3 rfl rfl)
theorem dX8_name_146 : decode cX8_name 146 = .ok (.getfield 226, 3) := dk_180 0 226 (dk_at dksX8_name_6 4 rfl rfl)
theorem dX8_name_149 : decode cX8_name 149 = .ok (.ireturn, 1) := dk_172 (dk_at dksX8_name_6 7 rfl rfl)
theorem dX8_name_150 : decode cX8_name 150 = .ok (.aload_n 0, 1) := dk_42 (dk_at dksX8_name_6 8 rfl rfl)
theorem dX8_name_151 : decode cX8_name 151 = .ok (.invokevirtual 201, 3) := dk_182 0 201 (dk_at dksX8_name_6 9 rfl rfl)
theorem dX8_name_154 : decode cX8_name 154 = .ok (.iconst 0, 1) := dk_3 (dk_at dksX8_name_6 12 rfl rfl)
theorem dX8_name_155 : decode cX8_name 155 = .ok (.ireturn, 1) := dk_172 (dk_at dksX8_name_6 13 rfl rfl)
abbrev cX8_within : ByteArray := prog_16_method_3_code
def yX8_within : MethodName := ⟨RX8, "within", "(III)I"⟩
def dkwX8_within_0 : List UInt8 := [26, 27, 162, 0, 7, 27, 167, 0, 13, 26, 28, 164, 0, 7, 28, 167, 0, 4, 26, 172]
abbrev dktX8_within_0 : List UInt8 := dkwX8_within_0 ++ []
theorem dksX8_within_0 : cX8_within.data.toList.drop 0 = dktX8_within_0 := by decide +kernel
theorem dX8_within_0 : decode cX8_within 0 = .ok (.iload_n 0, 1) := dk_26 (dk_at dksX8_within_0 0 rfl rfl)
theorem dX8_within_1 : decode cX8_within 1 = .ok (.iload_n 1, 1) := dk_27 (dk_at dksX8_within_0 1 rfl rfl)
theorem dX8_within_2 : decode cX8_within 2 = .ok (.if_icmp .ge 7, 3) := dk_162 0 7 (dk_at dksX8_within_0 2 rfl rfl)
theorem dX8_within_5 : decode cX8_within 5 = .ok (.iload_n 1, 1) := dk_27 (dk_at dksX8_within_0 5 rfl rfl)
theorem dX8_within_6 : decode cX8_within 6 = .ok (.goto 13, 3) := dk_167 0 13 (dk_at dksX8_within_0 6 rfl rfl)
theorem dX8_within_9 : decode cX8_within 9 = .ok (.iload_n 0, 1) := dk_26 (dk_at dksX8_within_0 9 rfl rfl)
theorem dX8_within_10 : decode cX8_within 10 = .ok (.iload_n 2, 1) := dk_28 (dk_at dksX8_within_0 10 rfl rfl)
theorem dX8_within_11 : decode cX8_within 11 = .ok (.if_icmp .le 7, 3) := dk_164 0 7 (dk_at dksX8_within_0 11 rfl rfl)
theorem dX8_within_14 : decode cX8_within 14 = .ok (.iload_n 2, 1) := dk_28 (dk_at dksX8_within_0 14 rfl rfl)
theorem dX8_within_15 : decode cX8_within 15 = .ok (.goto 4, 3) := dk_167 0 4 (dk_at dksX8_within_0 15 rfl rfl)
theorem dX8_within_18 : decode cX8_within 18 = .ok (.iload_n 0, 1) := dk_26 (dk_at dksX8_within_0 18 rfl rfl)
theorem dX8_within_19 : decode cX8_within 19 = .ok (.ireturn, 1) := dk_172 (dk_at dksX8_within_0 19 rfl rfl)
abbrev cX8_whereIs : ByteArray := prog_16_method_14_code
def yX8_whereIs : MethodName := ⟨RX8, "whereIs", "(I)I"⟩
def dkwX8_whereIs_1 : List UInt8 := [167, 255, 236, 2, 172]
abbrev dktX8_whereIs_1 : List UInt8 := dkwX8_whereIs_1 ++ []
def dkwX8_whereIs_0 : List UInt8 := [3, 61, 28, 7, 162, 0, 21, 42, 180, 0, 29, 28, 46, 27, 160, 0, 5, 28, 172, 132, 2, 1]
abbrev dktX8_whereIs_0 : List UInt8 := dkwX8_whereIs_0 ++ dktX8_whereIs_1
theorem dksX8_whereIs_0 : cX8_whereIs.data.toList.drop 0 = dktX8_whereIs_0 := by decide +kernel
theorem dksX8_whereIs_1 : cX8_whereIs.data.toList.drop 22 = dktX8_whereIs_1 := dk_seg dksX8_whereIs_0 22 rfl rfl
theorem dX8_whereIs_0 : decode cX8_whereIs 0 = .ok (.iconst 0, 1) := dk_3 (dk_at dksX8_whereIs_0 0 rfl rfl)
theorem dX8_whereIs_1 : decode cX8_whereIs 1 = .ok (.istore_n 2, 1) := dk_61 (dk_at dksX8_whereIs_0 1 rfl rfl)
theorem dX8_whereIs_2 : decode cX8_whereIs 2 = .ok (.iload_n 2, 1) := dk_28 (dk_at dksX8_whereIs_0 2 rfl rfl)
theorem dX8_whereIs_3 : decode cX8_whereIs 3 = .ok (.iconst 4, 1) := dk_7 (dk_at dksX8_whereIs_0 3 rfl rfl)
theorem dX8_whereIs_4 : decode cX8_whereIs 4 = .ok (.if_icmp .ge 21, 3) := dk_162 0 21 (dk_at dksX8_whereIs_0 4 rfl rfl)
theorem dX8_whereIs_7 : decode cX8_whereIs 7 = .ok (.aload_n 0, 1) := dk_42 (dk_at dksX8_whereIs_0 7 rfl rfl)
theorem dX8_whereIs_8 : decode cX8_whereIs 8 = .ok (.getfield 29, 3) := dk_180 0 29 (dk_at dksX8_whereIs_0 8 rfl rfl)
theorem dX8_whereIs_11 : decode cX8_whereIs 11 = .ok (.iload_n 2, 1) := dk_28 (dk_at dksX8_whereIs_0 11 rfl rfl)
theorem dX8_whereIs_12 : decode cX8_whereIs 12 = .ok (.iaload, 1) := dk_46 (dk_at dksX8_whereIs_0 12 rfl rfl)
theorem dX8_whereIs_13 : decode cX8_whereIs 13 = .ok (.iload_n 1, 1) := dk_27 (dk_at dksX8_whereIs_0 13 rfl rfl)
theorem dX8_whereIs_14 : decode cX8_whereIs 14 = .ok (.if_icmp .ne 5, 3) := dk_160 0 5 (dk_at dksX8_whereIs_0 14 rfl rfl)
theorem dX8_whereIs_17 : decode cX8_whereIs 17 = .ok (.iload_n 2, 1) := dk_28 (dk_at dksX8_whereIs_0 17 rfl rfl)
theorem dX8_whereIs_18 : decode cX8_whereIs 18 = .ok (.ireturn, 1) := dk_172 (dk_at dksX8_whereIs_0 18 rfl rfl)
theorem dX8_whereIs_19 : decode cX8_whereIs 19 = .ok (.iinc 2 1, 3) := dk_132 2 1 (dk_at dksX8_whereIs_0 19 rfl rfl)
theorem dX8_whereIs_22 : decode cX8_whereIs 22 = .ok (.goto (-20), 3) := dk_167 255 236 (dk_at dksX8_whereIs_1 0 rfl rfl)
theorem dX8_whereIs_25 : decode cX8_whereIs 25 = .ok (.iconst (-1), 1) := dk_2 (dk_at dksX8_whereIs_1 3 rfl rfl)
theorem dX8_whereIs_26 : decode cX8_whereIs 26 = .ok (.ireturn, 1) := dk_172 (dk_at dksX8_whereIs_1 4 rfl rfl)
abbrev cX8_costsOf : ByteArray := prog_16_method_39_code
def yX8_costsOf : MethodName := ⟨RX8, "costsOf", "(I)I"⟩
def dkwX8_costsOf_3 : List UInt8 := [5, 21, 4, 29, 96, 104, 167, 0, 5, 21, 4, 54, 5, 21, 5, 3, 17, 3, 231, 184, 1, 13, 172]
abbrev dktX8_costsOf_3 : List UInt8 := dkwX8_costsOf_3 ++ []
def dkwX8_costsOf_2 : List UInt8 := [5, 108, 4, 100, 167, 0, 31, 28, 5, 160, 0, 10, 21, 4, 29, 96, 167, 0, 19, 28, 7, 160, 0, 12]
abbrev dktX8_costsOf_2 : List UInt8 := dkwX8_costsOf_2 ++ dktX8_costsOf_3
def dkwX8_costsOf_1 : List UInt8 := [182, 1, 17, 54, 4, 28, 4, 160, 0, 10, 21, 4, 5, 108, 167, 0, 45, 28, 6, 160, 0, 12, 21, 4]
abbrev dktX8_costsOf_1 : List UInt8 := dkwX8_costsOf_1 ++ dktX8_costsOf_2
def dkwX8_costsOf_0 : List UInt8 := [42, 180, 0, 32, 27, 46, 61, 42, 180, 0, 35, 6, 27, 104, 46, 62, 42, 4, 27, 7, 3, 3]
abbrev dktX8_costsOf_0 : List UInt8 := dkwX8_costsOf_0 ++ dktX8_costsOf_1
theorem dksX8_costsOf_0 : cX8_costsOf.data.toList.drop 0 = dktX8_costsOf_0 := by decide +kernel
theorem dksX8_costsOf_1 : cX8_costsOf.data.toList.drop 22 = dktX8_costsOf_1 := dk_seg dksX8_costsOf_0 22 rfl rfl
theorem dksX8_costsOf_2 : cX8_costsOf.data.toList.drop 46 = dktX8_costsOf_2 := dk_seg dksX8_costsOf_1 24 rfl rfl
theorem dksX8_costsOf_3 : cX8_costsOf.data.toList.drop 70 = dktX8_costsOf_3 := dk_seg dksX8_costsOf_2 24 rfl rfl
theorem dX8_costsOf_0 : decode cX8_costsOf 0 = .ok (.aload_n 0, 1) := dk_42 (dk_at dksX8_costsOf_0 0 rfl rfl)
theorem dX8_costsOf_1 : decode cX8_costsOf 1 = .ok (.getfield 32, 3) := dk_180 0 32 (dk_at dksX8_costsOf_0 1 rfl rfl)
theorem dX8_costsOf_4 : decode cX8_costsOf 4 = .ok (.iload_n 1, 1) := dk_27 (dk_at dksX8_costsOf_0 4 rfl rfl)
theorem dX8_costsOf_5 : decode cX8_costsOf 5 = .ok (.iaload, 1) := dk_46 (dk_at dksX8_costsOf_0 5 rfl rfl)
theorem dX8_costsOf_6 : decode cX8_costsOf 6 = .ok (.istore_n 2, 1) := dk_61 (dk_at dksX8_costsOf_0 6 rfl rfl)
theorem dX8_costsOf_7 : decode cX8_costsOf 7 = .ok (.aload_n 0, 1) := dk_42 (dk_at dksX8_costsOf_0 7 rfl rfl)
theorem dX8_costsOf_8 : decode cX8_costsOf 8 = .ok (.getfield 35, 3) := dk_180 0 35 (dk_at dksX8_costsOf_0 8 rfl rfl)
theorem dX8_costsOf_11 : decode cX8_costsOf 11 = .ok (.iconst 3, 1) := dk_6 (dk_at dksX8_costsOf_0 11 rfl rfl)
theorem dX8_costsOf_12 : decode cX8_costsOf 12 = .ok (.iload_n 1, 1) := dk_27 (dk_at dksX8_costsOf_0 12 rfl rfl)
theorem dX8_costsOf_13 : decode cX8_costsOf 13 = .ok (.imul, 1) := dk_104 (dk_at dksX8_costsOf_0 13 rfl rfl)
theorem dX8_costsOf_14 : decode cX8_costsOf 14 = .ok (.iaload, 1) := dk_46 (dk_at dksX8_costsOf_0 14 rfl rfl)
theorem dX8_costsOf_15 : decode cX8_costsOf 15 = .ok (.istore_n 3, 1) := dk_62 (dk_at dksX8_costsOf_0 15 rfl rfl)
theorem dX8_costsOf_16 : decode cX8_costsOf 16 = .ok (.aload_n 0, 1) := dk_42 (dk_at dksX8_costsOf_0 16 rfl rfl)
theorem dX8_costsOf_17 : decode cX8_costsOf 17 = .ok (.iconst 1, 1) := dk_4 (dk_at dksX8_costsOf_0 17 rfl rfl)
theorem dX8_costsOf_18 : decode cX8_costsOf 18 = .ok (.iload_n 1, 1) := dk_27 (dk_at dksX8_costsOf_0 18 rfl rfl)
theorem dX8_costsOf_19 : decode cX8_costsOf 19 = .ok (.iconst 4, 1) := dk_7 (dk_at dksX8_costsOf_0 19 rfl rfl)
theorem dX8_costsOf_20 : decode cX8_costsOf 20 = .ok (.iconst 0, 1) := dk_3 (dk_at dksX8_costsOf_0 20 rfl rfl)
theorem dX8_costsOf_21 : decode cX8_costsOf 21 = .ok (.iconst 0, 1) := dk_3 (dk_at dksX8_costsOf_0 21 rfl rfl)
theorem dX8_costsOf_22 : decode cX8_costsOf 22 = .ok (.invokevirtual 273, 3) := dk_182 1 17 (dk_at dksX8_costsOf_1 0 rfl rfl)
theorem dX8_costsOf_25 : decode cX8_costsOf 25 = .ok (.istore 4, 2) := dk_54 4 (dk_at dksX8_costsOf_1 3 rfl rfl)
theorem dX8_costsOf_27 : decode cX8_costsOf 27 = .ok (.iload_n 2, 1) := dk_28 (dk_at dksX8_costsOf_1 5 rfl rfl)
theorem dX8_costsOf_28 : decode cX8_costsOf 28 = .ok (.iconst 1, 1) := dk_4 (dk_at dksX8_costsOf_1 6 rfl rfl)
theorem dX8_costsOf_29 : decode cX8_costsOf 29 = .ok (.if_icmp .ne 10, 3) := dk_160 0 10 (dk_at dksX8_costsOf_1 7 rfl rfl)
theorem dX8_costsOf_32 : decode cX8_costsOf 32 = .ok (.iload 4, 2) := dk_21 4 (dk_at dksX8_costsOf_1 10 rfl rfl)
theorem dX8_costsOf_34 : decode cX8_costsOf 34 = .ok (.iconst 2, 1) := dk_5 (dk_at dksX8_costsOf_1 12 rfl rfl)
theorem dX8_costsOf_35 : decode cX8_costsOf 35 = .ok (.idiv, 1) := dk_108 (dk_at dksX8_costsOf_1 13 rfl rfl)
theorem dX8_costsOf_36 : decode cX8_costsOf 36 = .ok (.goto 45, 3) := dk_167 0 45 (dk_at dksX8_costsOf_1 14 rfl rfl)
theorem dX8_costsOf_39 : decode cX8_costsOf 39 = .ok (.iload_n 2, 1) := dk_28 (dk_at dksX8_costsOf_1 17 rfl rfl)
theorem dX8_costsOf_40 : decode cX8_costsOf 40 = .ok (.iconst 3, 1) := dk_6 (dk_at dksX8_costsOf_1 18 rfl rfl)
theorem dX8_costsOf_41 : decode cX8_costsOf 41 = .ok (.if_icmp .ne 12, 3) := dk_160 0 12 (dk_at dksX8_costsOf_1 19 rfl rfl)
theorem dX8_costsOf_44 : decode cX8_costsOf 44 = .ok (.iload 4, 2) := dk_21 4 (dk_at dksX8_costsOf_1 22 rfl rfl)
theorem dX8_costsOf_46 : decode cX8_costsOf 46 = .ok (.iconst 2, 1) := dk_5 (dk_at dksX8_costsOf_2 0 rfl rfl)
theorem dX8_costsOf_47 : decode cX8_costsOf 47 = .ok (.idiv, 1) := dk_108 (dk_at dksX8_costsOf_2 1 rfl rfl)
theorem dX8_costsOf_48 : decode cX8_costsOf 48 = .ok (.iconst 1, 1) := dk_4 (dk_at dksX8_costsOf_2 2 rfl rfl)
theorem dX8_costsOf_49 : decode cX8_costsOf 49 = .ok (.isub, 1) := dk_100 (dk_at dksX8_costsOf_2 3 rfl rfl)
theorem dX8_costsOf_50 : decode cX8_costsOf 50 = .ok (.goto 31, 3) := dk_167 0 31 (dk_at dksX8_costsOf_2 4 rfl rfl)
theorem dX8_costsOf_53 : decode cX8_costsOf 53 = .ok (.iload_n 2, 1) := dk_28 (dk_at dksX8_costsOf_2 7 rfl rfl)
theorem dX8_costsOf_54 : decode cX8_costsOf 54 = .ok (.iconst 2, 1) := dk_5 (dk_at dksX8_costsOf_2 8 rfl rfl)
theorem dX8_costsOf_55 : decode cX8_costsOf 55 = .ok (.if_icmp .ne 10, 3) := dk_160 0 10 (dk_at dksX8_costsOf_2 9 rfl rfl)
theorem dX8_costsOf_58 : decode cX8_costsOf 58 = .ok (.iload 4, 2) := dk_21 4 (dk_at dksX8_costsOf_2 12 rfl rfl)
theorem dX8_costsOf_60 : decode cX8_costsOf 60 = .ok (.iload_n 3, 1) := dk_29 (dk_at dksX8_costsOf_2 14 rfl rfl)
theorem dX8_costsOf_61 : decode cX8_costsOf 61 = .ok (.iadd, 1) := dk_96 (dk_at dksX8_costsOf_2 15 rfl rfl)
theorem dX8_costsOf_62 : decode cX8_costsOf 62 = .ok (.goto 19, 3) := dk_167 0 19 (dk_at dksX8_costsOf_2 16 rfl rfl)
theorem dX8_costsOf_65 : decode cX8_costsOf 65 = .ok (.iload_n 2, 1) := dk_28 (dk_at dksX8_costsOf_2 19 rfl rfl)
theorem dX8_costsOf_66 : decode cX8_costsOf 66 = .ok (.iconst 4, 1) := dk_7 (dk_at dksX8_costsOf_2 20 rfl rfl)
theorem dX8_costsOf_67 : decode cX8_costsOf 67 = .ok (.if_icmp .ne 12, 3) := dk_160 0 12 (dk_at dksX8_costsOf_2 21 rfl rfl)
theorem dX8_costsOf_70 : decode cX8_costsOf 70 = .ok (.iconst 2, 1) := dk_5 (dk_at dksX8_costsOf_3 0 rfl rfl)
theorem dX8_costsOf_71 : decode cX8_costsOf 71 = .ok (.iload 4, 2) := dk_21 4 (dk_at dksX8_costsOf_3 1 rfl rfl)
theorem dX8_costsOf_73 : decode cX8_costsOf 73 = .ok (.iload_n 3, 1) := dk_29 (dk_at dksX8_costsOf_3 3 rfl rfl)
theorem dX8_costsOf_74 : decode cX8_costsOf 74 = .ok (.iadd, 1) := dk_96 (dk_at dksX8_costsOf_3 4 rfl rfl)
theorem dX8_costsOf_75 : decode cX8_costsOf 75 = .ok (.imul, 1) := dk_104 (dk_at dksX8_costsOf_3 5 rfl rfl)
theorem dX8_costsOf_76 : decode cX8_costsOf 76 = .ok (.goto 5, 3) := dk_167 0 5 (dk_at dksX8_costsOf_3 6 rfl rfl)
theorem dX8_costsOf_79 : decode cX8_costsOf 79 = .ok (.iload 4, 2) := dk_21 4 (dk_at dksX8_costsOf_3 9 rfl rfl)
theorem dX8_costsOf_81 : decode cX8_costsOf 81 = .ok (.istore 5, 2) := dk_54 5 (dk_at dksX8_costsOf_3 11 rfl rfl)
theorem dX8_costsOf_83 : decode cX8_costsOf 83 = .ok (.iload 5, 2) := dk_21 5 (dk_at dksX8_costsOf_3 13 rfl rfl)
theorem dX8_costsOf_85 : decode cX8_costsOf 85 = .ok (.iconst 0, 1) := dk_3 (dk_at dksX8_costsOf_3 15 rfl rfl)
theorem dX8_costsOf_86 : decode cX8_costsOf 86 = .ok (.sipush 999, 3) := dk_17 3 231 (dk_at dksX8_costsOf_3 16 rfl rfl)
theorem dX8_costsOf_89 : decode cX8_costsOf 89 = .ok (.invokestatic 269, 3) := dk_184 1 13 (dk_at dksX8_costsOf_3 19 rfl rfl)
theorem dX8_costsOf_92 : decode cX8_costsOf 92 = .ok (.ireturn, 1) := dk_172 (dk_at dksX8_costsOf_3 22 rfl rfl)
abbrev cX8_spillsOf : ByteArray := prog_16_method_40_code
def yX8_spillsOf : MethodName := ⟨RX8, "spillsOf", "(I)I"⟩
def dkwX8_spillsOf_2 : List UInt8 := [167, 0, 4, 3, 172]
abbrev dktX8_spillsOf_2 : List UInt8 := dkwX8_spillsOf_2 ++ []
def dkwX8_spillsOf_1 : List UInt8 := [160, 0, 7, 29, 167, 0, 24, 28, 6, 160, 0, 9, 29, 4, 96, 167, 0, 13, 28, 8, 160, 0, 7, 4]
abbrev dktX8_spillsOf_1 : List UInt8 := dkwX8_spillsOf_1 ++ dktX8_spillsOf_2
def dkwX8_spillsOf_0 : List UInt8 := [42, 180, 0, 32, 27, 46, 61, 4, 42, 180, 0, 35, 6, 27, 104, 5, 96, 46, 6, 108, 96, 62, 28, 4]
abbrev dktX8_spillsOf_0 : List UInt8 := dkwX8_spillsOf_0 ++ dktX8_spillsOf_1
theorem dksX8_spillsOf_0 : cX8_spillsOf.data.toList.drop 0 = dktX8_spillsOf_0 := by decide +kernel
theorem dksX8_spillsOf_1 : cX8_spillsOf.data.toList.drop 24 = dktX8_spillsOf_1 := dk_seg dksX8_spillsOf_0 24 rfl rfl
theorem dksX8_spillsOf_2 : cX8_spillsOf.data.toList.drop 48 = dktX8_spillsOf_2 := dk_seg dksX8_spillsOf_1 24 rfl rfl
theorem dX8_spillsOf_0 : decode cX8_spillsOf 0 = .ok (.aload_n 0, 1) := dk_42 (dk_at dksX8_spillsOf_0 0 rfl rfl)
theorem dX8_spillsOf_1 : decode cX8_spillsOf 1 = .ok (.getfield 32, 3) := dk_180 0 32 (dk_at dksX8_spillsOf_0 1 rfl rfl)
theorem dX8_spillsOf_4 : decode cX8_spillsOf 4 = .ok (.iload_n 1, 1) := dk_27 (dk_at dksX8_spillsOf_0 4 rfl rfl)
theorem dX8_spillsOf_5 : decode cX8_spillsOf 5 = .ok (.iaload, 1) := dk_46 (dk_at dksX8_spillsOf_0 5 rfl rfl)
theorem dX8_spillsOf_6 : decode cX8_spillsOf 6 = .ok (.istore_n 2, 1) := dk_61 (dk_at dksX8_spillsOf_0 6 rfl rfl)
theorem dX8_spillsOf_7 : decode cX8_spillsOf 7 = .ok (.iconst 1, 1) := dk_4 (dk_at dksX8_spillsOf_0 7 rfl rfl)
theorem dX8_spillsOf_8 : decode cX8_spillsOf 8 = .ok (.aload_n 0, 1) := dk_42 (dk_at dksX8_spillsOf_0 8 rfl rfl)
theorem dX8_spillsOf_9 : decode cX8_spillsOf 9 = .ok (.getfield 35, 3) := dk_180 0 35 (dk_at dksX8_spillsOf_0 9 rfl rfl)
theorem dX8_spillsOf_12 : decode cX8_spillsOf 12 = .ok (.iconst 3, 1) := dk_6 (dk_at dksX8_spillsOf_0 12 rfl rfl)
theorem dX8_spillsOf_13 : decode cX8_spillsOf 13 = .ok (.iload_n 1, 1) := dk_27 (dk_at dksX8_spillsOf_0 13 rfl rfl)
theorem dX8_spillsOf_14 : decode cX8_spillsOf 14 = .ok (.imul, 1) := dk_104 (dk_at dksX8_spillsOf_0 14 rfl rfl)
theorem dX8_spillsOf_15 : decode cX8_spillsOf 15 = .ok (.iconst 2, 1) := dk_5 (dk_at dksX8_spillsOf_0 15 rfl rfl)
theorem dX8_spillsOf_16 : decode cX8_spillsOf 16 = .ok (.iadd, 1) := dk_96 (dk_at dksX8_spillsOf_0 16 rfl rfl)
theorem dX8_spillsOf_17 : decode cX8_spillsOf 17 = .ok (.iaload, 1) := dk_46 (dk_at dksX8_spillsOf_0 17 rfl rfl)
theorem dX8_spillsOf_18 : decode cX8_spillsOf 18 = .ok (.iconst 3, 1) := dk_6 (dk_at dksX8_spillsOf_0 18 rfl rfl)
theorem dX8_spillsOf_19 : decode cX8_spillsOf 19 = .ok (.idiv, 1) := dk_108 (dk_at dksX8_spillsOf_0 19 rfl rfl)
theorem dX8_spillsOf_20 : decode cX8_spillsOf 20 = .ok (.iadd, 1) := dk_96 (dk_at dksX8_spillsOf_0 20 rfl rfl)
theorem dX8_spillsOf_21 : decode cX8_spillsOf 21 = .ok (.istore_n 3, 1) := dk_62 (dk_at dksX8_spillsOf_0 21 rfl rfl)
theorem dX8_spillsOf_22 : decode cX8_spillsOf 22 = .ok (.iload_n 2, 1) := dk_28 (dk_at dksX8_spillsOf_0 22 rfl rfl)
theorem dX8_spillsOf_23 : decode cX8_spillsOf 23 = .ok (.iconst 1, 1) := dk_4 (dk_at dksX8_spillsOf_0 23 rfl rfl)
theorem dX8_spillsOf_24 : decode cX8_spillsOf 24 = .ok (.if_icmp .ne 7, 3) := dk_160 0 7 (dk_at dksX8_spillsOf_1 0 rfl rfl)
theorem dX8_spillsOf_27 : decode cX8_spillsOf 27 = .ok (.iload_n 3, 1) := dk_29 (dk_at dksX8_spillsOf_1 3 rfl rfl)
theorem dX8_spillsOf_28 : decode cX8_spillsOf 28 = .ok (.goto 24, 3) := dk_167 0 24 (dk_at dksX8_spillsOf_1 4 rfl rfl)
theorem dX8_spillsOf_31 : decode cX8_spillsOf 31 = .ok (.iload_n 2, 1) := dk_28 (dk_at dksX8_spillsOf_1 7 rfl rfl)
theorem dX8_spillsOf_32 : decode cX8_spillsOf 32 = .ok (.iconst 3, 1) := dk_6 (dk_at dksX8_spillsOf_1 8 rfl rfl)
theorem dX8_spillsOf_33 : decode cX8_spillsOf 33 = .ok (.if_icmp .ne 9, 3) := dk_160 0 9 (dk_at dksX8_spillsOf_1 9 rfl rfl)
theorem dX8_spillsOf_36 : decode cX8_spillsOf 36 = .ok (.iload_n 3, 1) := dk_29 (dk_at dksX8_spillsOf_1 12 rfl rfl)
theorem dX8_spillsOf_37 : decode cX8_spillsOf 37 = .ok (.iconst 1, 1) := dk_4 (dk_at dksX8_spillsOf_1 13 rfl rfl)
theorem dX8_spillsOf_38 : decode cX8_spillsOf 38 = .ok (.iadd, 1) := dk_96 (dk_at dksX8_spillsOf_1 14 rfl rfl)
theorem dX8_spillsOf_39 : decode cX8_spillsOf 39 = .ok (.goto 13, 3) := dk_167 0 13 (dk_at dksX8_spillsOf_1 15 rfl rfl)
theorem dX8_spillsOf_42 : decode cX8_spillsOf 42 = .ok (.iload_n 2, 1) := dk_28 (dk_at dksX8_spillsOf_1 18 rfl rfl)
theorem dX8_spillsOf_43 : decode cX8_spillsOf 43 = .ok (.iconst 5, 1) := dk_8 (dk_at dksX8_spillsOf_1 19 rfl rfl)
theorem dX8_spillsOf_44 : decode cX8_spillsOf 44 = .ok (.if_icmp .ne 7, 3) := dk_160 0 7 (dk_at dksX8_spillsOf_1 20 rfl rfl)
theorem dX8_spillsOf_47 : decode cX8_spillsOf 47 = .ok (.iconst 1, 1) := dk_4 (dk_at dksX8_spillsOf_1 23 rfl rfl)
theorem dX8_spillsOf_48 : decode cX8_spillsOf 48 = .ok (.goto 4, 3) := dk_167 0 4 (dk_at dksX8_spillsOf_2 0 rfl rfl)
theorem dX8_spillsOf_51 : decode cX8_spillsOf 51 = .ok (.iconst 0, 1) := dk_3 (dk_at dksX8_spillsOf_2 3 rfl rfl)
theorem dX8_spillsOf_52 : decode cX8_spillsOf 52 = .ok (.ireturn, 1) := dk_172 (dk_at dksX8_spillsOf_2 4 rfl rfl)
abbrev cX8_lays : ByteArray := prog_16_method_11_code
def yX8_lays : MethodName := ⟨RX8, "lays", "(III)V"⟩
def dkwX8_lays_2 : List UInt8 := [27, 8, 160, 0, 13, 42, 180, 0, 32, 28, 29, 79, 167, 0, 8, 42, 29, 181, 0, 119, 177]
abbrev dktX8_lays_2 : List UInt8 := dkwX8_lays_2 ++ []
def dkwX8_lays_1 : List UInt8 := [167, 0, 44, 27, 8, 162, 0, 19, 42, 180, 0, 35, 6, 28, 104, 27, 96, 5, 100, 29, 79, 167, 0, 23]
abbrev dktX8_lays_1 : List UInt8 := dkwX8_lays_1 ++ dktX8_lays_2
def dkwX8_lays_0 : List UInt8 := [27, 154, 0, 11, 42, 29, 181, 0, 23, 167, 0, 59, 27, 4, 160, 0, 13, 42, 180, 0, 26, 28, 29, 79]
abbrev dktX8_lays_0 : List UInt8 := dkwX8_lays_0 ++ dktX8_lays_1
theorem dksX8_lays_0 : cX8_lays.data.toList.drop 0 = dktX8_lays_0 := by decide +kernel
theorem dksX8_lays_1 : cX8_lays.data.toList.drop 24 = dktX8_lays_1 := dk_seg dksX8_lays_0 24 rfl rfl
theorem dksX8_lays_2 : cX8_lays.data.toList.drop 48 = dktX8_lays_2 := dk_seg dksX8_lays_1 24 rfl rfl
theorem dX8_lays_0 : decode cX8_lays 0 = .ok (.iload_n 1, 1) := dk_27 (dk_at dksX8_lays_0 0 rfl rfl)
theorem dX8_lays_1 : decode cX8_lays 1 = .ok (.ifCond .ne 11, 3) := dk_154 0 11 (dk_at dksX8_lays_0 1 rfl rfl)
theorem dX8_lays_4 : decode cX8_lays 4 = .ok (.aload_n 0, 1) := dk_42 (dk_at dksX8_lays_0 4 rfl rfl)
theorem dX8_lays_5 : decode cX8_lays 5 = .ok (.iload_n 3, 1) := dk_29 (dk_at dksX8_lays_0 5 rfl rfl)
theorem dX8_lays_6 : decode cX8_lays 6 = .ok (.putfield 23, 3) := dk_181 0 23 (dk_at dksX8_lays_0 6 rfl rfl)
theorem dX8_lays_9 : decode cX8_lays 9 = .ok (.goto 59, 3) := dk_167 0 59 (dk_at dksX8_lays_0 9 rfl rfl)
theorem dX8_lays_12 : decode cX8_lays 12 = .ok (.iload_n 1, 1) := dk_27 (dk_at dksX8_lays_0 12 rfl rfl)
theorem dX8_lays_13 : decode cX8_lays 13 = .ok (.iconst 1, 1) := dk_4 (dk_at dksX8_lays_0 13 rfl rfl)
theorem dX8_lays_14 : decode cX8_lays 14 = .ok (.if_icmp .ne 13, 3) := dk_160 0 13 (dk_at dksX8_lays_0 14 rfl rfl)
theorem dX8_lays_17 : decode cX8_lays 17 = .ok (.aload_n 0, 1) := dk_42 (dk_at dksX8_lays_0 17 rfl rfl)
theorem dX8_lays_18 : decode cX8_lays 18 = .ok (.getfield 26, 3) := dk_180 0 26 (dk_at dksX8_lays_0 18 rfl rfl)
theorem dX8_lays_21 : decode cX8_lays 21 = .ok (.iload_n 2, 1) := dk_28 (dk_at dksX8_lays_0 21 rfl rfl)
theorem dX8_lays_22 : decode cX8_lays 22 = .ok (.iload_n 3, 1) := dk_29 (dk_at dksX8_lays_0 22 rfl rfl)
theorem dX8_lays_23 : decode cX8_lays 23 = .ok (.iastore, 1) := dk_79 (dk_at dksX8_lays_0 23 rfl rfl)
theorem dX8_lays_24 : decode cX8_lays 24 = .ok (.goto 44, 3) := dk_167 0 44 (dk_at dksX8_lays_1 0 rfl rfl)
theorem dX8_lays_27 : decode cX8_lays 27 = .ok (.iload_n 1, 1) := dk_27 (dk_at dksX8_lays_1 3 rfl rfl)
theorem dX8_lays_28 : decode cX8_lays 28 = .ok (.iconst 5, 1) := dk_8 (dk_at dksX8_lays_1 4 rfl rfl)
theorem dX8_lays_29 : decode cX8_lays 29 = .ok (.if_icmp .ge 19, 3) := dk_162 0 19 (dk_at dksX8_lays_1 5 rfl rfl)
theorem dX8_lays_32 : decode cX8_lays 32 = .ok (.aload_n 0, 1) := dk_42 (dk_at dksX8_lays_1 8 rfl rfl)
theorem dX8_lays_33 : decode cX8_lays 33 = .ok (.getfield 35, 3) := dk_180 0 35 (dk_at dksX8_lays_1 9 rfl rfl)
theorem dX8_lays_36 : decode cX8_lays 36 = .ok (.iconst 3, 1) := dk_6 (dk_at dksX8_lays_1 12 rfl rfl)
theorem dX8_lays_37 : decode cX8_lays 37 = .ok (.iload_n 2, 1) := dk_28 (dk_at dksX8_lays_1 13 rfl rfl)
theorem dX8_lays_38 : decode cX8_lays 38 = .ok (.imul, 1) := dk_104 (dk_at dksX8_lays_1 14 rfl rfl)
theorem dX8_lays_39 : decode cX8_lays 39 = .ok (.iload_n 1, 1) := dk_27 (dk_at dksX8_lays_1 15 rfl rfl)
theorem dX8_lays_40 : decode cX8_lays 40 = .ok (.iadd, 1) := dk_96 (dk_at dksX8_lays_1 16 rfl rfl)
theorem dX8_lays_41 : decode cX8_lays 41 = .ok (.iconst 2, 1) := dk_5 (dk_at dksX8_lays_1 17 rfl rfl)
theorem dX8_lays_42 : decode cX8_lays 42 = .ok (.isub, 1) := dk_100 (dk_at dksX8_lays_1 18 rfl rfl)
theorem dX8_lays_43 : decode cX8_lays 43 = .ok (.iload_n 3, 1) := dk_29 (dk_at dksX8_lays_1 19 rfl rfl)
theorem dX8_lays_44 : decode cX8_lays 44 = .ok (.iastore, 1) := dk_79 (dk_at dksX8_lays_1 20 rfl rfl)
theorem dX8_lays_45 : decode cX8_lays 45 = .ok (.goto 23, 3) := dk_167 0 23 (dk_at dksX8_lays_1 21 rfl rfl)
theorem dX8_lays_48 : decode cX8_lays 48 = .ok (.iload_n 1, 1) := dk_27 (dk_at dksX8_lays_2 0 rfl rfl)
theorem dX8_lays_49 : decode cX8_lays 49 = .ok (.iconst 5, 1) := dk_8 (dk_at dksX8_lays_2 1 rfl rfl)
theorem dX8_lays_50 : decode cX8_lays 50 = .ok (.if_icmp .ne 13, 3) := dk_160 0 13 (dk_at dksX8_lays_2 2 rfl rfl)
theorem dX8_lays_53 : decode cX8_lays 53 = .ok (.aload_n 0, 1) := dk_42 (dk_at dksX8_lays_2 5 rfl rfl)
theorem dX8_lays_54 : decode cX8_lays 54 = .ok (.getfield 32, 3) := dk_180 0 32 (dk_at dksX8_lays_2 6 rfl rfl)
theorem dX8_lays_57 : decode cX8_lays 57 = .ok (.iload_n 2, 1) := dk_28 (dk_at dksX8_lays_2 9 rfl rfl)
theorem dX8_lays_58 : decode cX8_lays 58 = .ok (.iload_n 3, 1) := dk_29 (dk_at dksX8_lays_2 10 rfl rfl)
theorem dX8_lays_59 : decode cX8_lays 59 = .ok (.iastore, 1) := dk_79 (dk_at dksX8_lays_2 11 rfl rfl)
theorem dX8_lays_60 : decode cX8_lays 60 = .ok (.goto 8, 3) := dk_167 0 8 (dk_at dksX8_lays_2 12 rfl rfl)
theorem dX8_lays_63 : decode cX8_lays 63 = .ok (.aload_n 0, 1) := dk_42 (dk_at dksX8_lays_2 15 rfl rfl)
theorem dX8_lays_64 : decode cX8_lays 64 = .ok (.iload_n 3, 1) := dk_29 (dk_at dksX8_lays_2 16 rfl rfl)
theorem dX8_lays_65 : decode cX8_lays 65 = .ok (.putfield 119, 3) := dk_181 0 119 (dk_at dksX8_lays_2 17 rfl rfl)
theorem dX8_lays_68 : decode cX8_lays 68 = .ok (.return_, 1) := dk_177 (dk_at dksX8_lays_2 20 rfl rfl)
abbrev cX8_pane : ByteArray := prog_16_method_12_code
def yX8_pane : MethodName := ⟨RX8, "pane", "(III)I"⟩
def dkwX8_pane_5 : List UInt8 := [180, 0, 85, 4, 96, 181, 0, 85, 42, 180, 0, 85, 4, 100, 172]
abbrev dktX8_pane_5 : List UInt8 := dkwX8_pane_5 ++ []
def dkwX8_pane_4 : List UInt8 := [104, 5, 96, 3, 79, 42, 89, 180, 0, 128, 4, 42, 180, 0, 85, 120, 2, 130, 126, 181, 0, 128, 42, 89]
abbrev dktX8_pane_4 : List UInt8 := dkwX8_pane_4 ++ dktX8_pane_5
def dkwX8_pane_3 : List UInt8 := [79, 42, 180, 0, 35, 6, 42, 180, 0, 85, 104, 4, 96, 29, 79, 42, 180, 0, 35, 6, 42, 180, 0, 85]
abbrev dktX8_pane_3 : List UInt8 := dkwX8_pane_3 ++ dktX8_pane_4
def dkwX8_pane_2 : List UInt8 := [16, 252, 172, 42, 180, 0, 32, 42, 180, 0, 85, 27, 79, 42, 180, 0, 35, 6, 42, 180, 0, 85, 104, 28]
abbrev dktX8_pane_2 : List UInt8 := dkwX8_pane_2 ++ dktX8_pane_3
def dkwX8_pane_1 : List UInt8 := [29, 133, 9, 20, 0, 126, 184, 0, 88, 154, 0, 6, 16, 254, 172, 42, 180, 0, 85, 16, 6, 160, 0, 6]
abbrev dktX8_pane_1 : List UInt8 := dkwX8_pane_1 ++ dktX8_pane_2
def dkwX8_pane_0 : List UInt8 := [27, 133, 9, 20, 0, 122, 184, 0, 88, 153, 0, 27, 28, 133, 9, 20, 0, 124, 184, 0, 88, 153, 0, 15]
abbrev dktX8_pane_0 : List UInt8 := dkwX8_pane_0 ++ dktX8_pane_1
theorem dksX8_pane_0 : cX8_pane.data.toList.drop 0 = dktX8_pane_0 := by decide +kernel
theorem dksX8_pane_1 : cX8_pane.data.toList.drop 24 = dktX8_pane_1 := dk_seg dksX8_pane_0 24 rfl rfl
theorem dksX8_pane_2 : cX8_pane.data.toList.drop 48 = dktX8_pane_2 := dk_seg dksX8_pane_1 24 rfl rfl
theorem dksX8_pane_3 : cX8_pane.data.toList.drop 72 = dktX8_pane_3 := dk_seg dksX8_pane_2 24 rfl rfl
theorem dksX8_pane_4 : cX8_pane.data.toList.drop 96 = dktX8_pane_4 := dk_seg dksX8_pane_3 24 rfl rfl
theorem dksX8_pane_5 : cX8_pane.data.toList.drop 120 = dktX8_pane_5 := dk_seg dksX8_pane_4 24 rfl rfl
theorem dX8_pane_0 : decode cX8_pane 0 = .ok (.iload_n 1, 1) := dk_27 (dk_at dksX8_pane_0 0 rfl rfl)
theorem dX8_pane_1 : decode cX8_pane 1 = .ok (.i2l, 1) := dk_133 (dk_at dksX8_pane_0 1 rfl rfl)
theorem dX8_pane_2 : decode cX8_pane 2 = .ok (.lconst 0, 1) := dk_9 (dk_at dksX8_pane_0 2 rfl rfl)
theorem dX8_pane_3 : decode cX8_pane 3 = .ok (.ldc2_w 122, 3) := dk_20 0 122 (dk_at dksX8_pane_0 3 rfl rfl)
theorem dX8_pane_6 : decode cX8_pane 6 = .ok (.invokestatic 88, 3) := dk_184 0 88 (dk_at dksX8_pane_0 6 rfl rfl)
theorem dX8_pane_9 : decode cX8_pane 9 = .ok (.ifCond .eq 27, 3) := dk_153 0 27 (dk_at dksX8_pane_0 9 rfl rfl)
theorem dX8_pane_12 : decode cX8_pane 12 = .ok (.iload_n 2, 1) := dk_28 (dk_at dksX8_pane_0 12 rfl rfl)
theorem dX8_pane_13 : decode cX8_pane 13 = .ok (.i2l, 1) := dk_133 (dk_at dksX8_pane_0 13 rfl rfl)
theorem dX8_pane_14 : decode cX8_pane 14 = .ok (.lconst 0, 1) := dk_9 (dk_at dksX8_pane_0 14 rfl rfl)
theorem dX8_pane_15 : decode cX8_pane 15 = .ok (.ldc2_w 124, 3) := dk_20 0 124 (dk_at dksX8_pane_0 15 rfl rfl)
theorem dX8_pane_18 : decode cX8_pane 18 = .ok (.invokestatic 88, 3) := dk_184 0 88 (dk_at dksX8_pane_0 18 rfl rfl)
theorem dX8_pane_21 : decode cX8_pane 21 = .ok (.ifCond .eq 15, 3) := dk_153 0 15 (dk_at dksX8_pane_0 21 rfl rfl)
theorem dX8_pane_24 : decode cX8_pane 24 = .ok (.iload_n 3, 1) := dk_29 (dk_at dksX8_pane_1 0 rfl rfl)
theorem dX8_pane_25 : decode cX8_pane 25 = .ok (.i2l, 1) := dk_133 (dk_at dksX8_pane_1 1 rfl rfl)
theorem dX8_pane_26 : decode cX8_pane 26 = .ok (.lconst 0, 1) := dk_9 (dk_at dksX8_pane_1 2 rfl rfl)
theorem dX8_pane_27 : decode cX8_pane 27 = .ok (.ldc2_w 126, 3) := dk_20 0 126 (dk_at dksX8_pane_1 3 rfl rfl)
theorem dX8_pane_30 : decode cX8_pane 30 = .ok (.invokestatic 88, 3) := dk_184 0 88 (dk_at dksX8_pane_1 6 rfl rfl)
theorem dX8_pane_33 : decode cX8_pane 33 = .ok (.ifCond .ne 6, 3) := dk_154 0 6 (dk_at dksX8_pane_1 9 rfl rfl)
theorem dX8_pane_36 : decode cX8_pane 36 = .ok (.bipush (-2), 2) := dk_16 254 (dk_at dksX8_pane_1 12 rfl rfl)
theorem dX8_pane_38 : decode cX8_pane 38 = .ok (.ireturn, 1) := dk_172 (dk_at dksX8_pane_1 14 rfl rfl)
theorem dX8_pane_39 : decode cX8_pane 39 = .ok (.aload_n 0, 1) := dk_42 (dk_at dksX8_pane_1 15 rfl rfl)
theorem dX8_pane_40 : decode cX8_pane 40 = .ok (.getfield 85, 3) := dk_180 0 85 (dk_at dksX8_pane_1 16 rfl rfl)
theorem dX8_pane_43 : decode cX8_pane 43 = .ok (.bipush 6, 2) := dk_16 6 (dk_at dksX8_pane_1 19 rfl rfl)
theorem dX8_pane_45 : decode cX8_pane 45 = .ok (.if_icmp .ne 6, 3) := dk_160 0 6 (dk_at dksX8_pane_1 21 rfl rfl)
theorem dX8_pane_48 : decode cX8_pane 48 = .ok (.bipush (-4), 2) := dk_16 252 (dk_at dksX8_pane_2 0 rfl rfl)
theorem dX8_pane_50 : decode cX8_pane 50 = .ok (.ireturn, 1) := dk_172 (dk_at dksX8_pane_2 2 rfl rfl)
theorem dX8_pane_51 : decode cX8_pane 51 = .ok (.aload_n 0, 1) := dk_42 (dk_at dksX8_pane_2 3 rfl rfl)
theorem dX8_pane_52 : decode cX8_pane 52 = .ok (.getfield 32, 3) := dk_180 0 32 (dk_at dksX8_pane_2 4 rfl rfl)
theorem dX8_pane_55 : decode cX8_pane 55 = .ok (.aload_n 0, 1) := dk_42 (dk_at dksX8_pane_2 7 rfl rfl)
theorem dX8_pane_56 : decode cX8_pane 56 = .ok (.getfield 85, 3) := dk_180 0 85 (dk_at dksX8_pane_2 8 rfl rfl)
theorem dX8_pane_59 : decode cX8_pane 59 = .ok (.iload_n 1, 1) := dk_27 (dk_at dksX8_pane_2 11 rfl rfl)
theorem dX8_pane_60 : decode cX8_pane 60 = .ok (.iastore, 1) := dk_79 (dk_at dksX8_pane_2 12 rfl rfl)
theorem dX8_pane_61 : decode cX8_pane 61 = .ok (.aload_n 0, 1) := dk_42 (dk_at dksX8_pane_2 13 rfl rfl)
theorem dX8_pane_62 : decode cX8_pane 62 = .ok (.getfield 35, 3) := dk_180 0 35 (dk_at dksX8_pane_2 14 rfl rfl)
theorem dX8_pane_65 : decode cX8_pane 65 = .ok (.iconst 3, 1) := dk_6 (dk_at dksX8_pane_2 17 rfl rfl)
theorem dX8_pane_66 : decode cX8_pane 66 = .ok (.aload_n 0, 1) := dk_42 (dk_at dksX8_pane_2 18 rfl rfl)
theorem dX8_pane_67 : decode cX8_pane 67 = .ok (.getfield 85, 3) := dk_180 0 85 (dk_at dksX8_pane_2 19 rfl rfl)
theorem dX8_pane_70 : decode cX8_pane 70 = .ok (.imul, 1) := dk_104 (dk_at dksX8_pane_2 22 rfl rfl)
theorem dX8_pane_71 : decode cX8_pane 71 = .ok (.iload_n 2, 1) := dk_28 (dk_at dksX8_pane_2 23 rfl rfl)
theorem dX8_pane_72 : decode cX8_pane 72 = .ok (.iastore, 1) := dk_79 (dk_at dksX8_pane_3 0 rfl rfl)
theorem dX8_pane_73 : decode cX8_pane 73 = .ok (.aload_n 0, 1) := dk_42 (dk_at dksX8_pane_3 1 rfl rfl)
theorem dX8_pane_74 : decode cX8_pane 74 = .ok (.getfield 35, 3) := dk_180 0 35 (dk_at dksX8_pane_3 2 rfl rfl)
theorem dX8_pane_77 : decode cX8_pane 77 = .ok (.iconst 3, 1) := dk_6 (dk_at dksX8_pane_3 5 rfl rfl)
theorem dX8_pane_78 : decode cX8_pane 78 = .ok (.aload_n 0, 1) := dk_42 (dk_at dksX8_pane_3 6 rfl rfl)
theorem dX8_pane_79 : decode cX8_pane 79 = .ok (.getfield 85, 3) := dk_180 0 85 (dk_at dksX8_pane_3 7 rfl rfl)
theorem dX8_pane_82 : decode cX8_pane 82 = .ok (.imul, 1) := dk_104 (dk_at dksX8_pane_3 10 rfl rfl)
theorem dX8_pane_83 : decode cX8_pane 83 = .ok (.iconst 1, 1) := dk_4 (dk_at dksX8_pane_3 11 rfl rfl)
theorem dX8_pane_84 : decode cX8_pane 84 = .ok (.iadd, 1) := dk_96 (dk_at dksX8_pane_3 12 rfl rfl)
theorem dX8_pane_85 : decode cX8_pane 85 = .ok (.iload_n 3, 1) := dk_29 (dk_at dksX8_pane_3 13 rfl rfl)
theorem dX8_pane_86 : decode cX8_pane 86 = .ok (.iastore, 1) := dk_79 (dk_at dksX8_pane_3 14 rfl rfl)
theorem dX8_pane_87 : decode cX8_pane 87 = .ok (.aload_n 0, 1) := dk_42 (dk_at dksX8_pane_3 15 rfl rfl)
theorem dX8_pane_88 : decode cX8_pane 88 = .ok (.getfield 35, 3) := dk_180 0 35 (dk_at dksX8_pane_3 16 rfl rfl)
theorem dX8_pane_91 : decode cX8_pane 91 = .ok (.iconst 3, 1) := dk_6 (dk_at dksX8_pane_3 19 rfl rfl)
theorem dX8_pane_92 : decode cX8_pane 92 = .ok (.aload_n 0, 1) := dk_42 (dk_at dksX8_pane_3 20 rfl rfl)
theorem dX8_pane_93 : decode cX8_pane 93 = .ok (.getfield 85, 3) := dk_180 0 85 (dk_at dksX8_pane_3 21 rfl rfl)
theorem dX8_pane_96 : decode cX8_pane 96 = .ok (.imul, 1) := dk_104 (dk_at dksX8_pane_4 0 rfl rfl)
theorem dX8_pane_97 : decode cX8_pane 97 = .ok (.iconst 2, 1) := dk_5 (dk_at dksX8_pane_4 1 rfl rfl)
theorem dX8_pane_98 : decode cX8_pane 98 = .ok (.iadd, 1) := dk_96 (dk_at dksX8_pane_4 2 rfl rfl)
theorem dX8_pane_99 : decode cX8_pane 99 = .ok (.iconst 0, 1) := dk_3 (dk_at dksX8_pane_4 3 rfl rfl)
theorem dX8_pane_100 : decode cX8_pane 100 = .ok (.iastore, 1) := dk_79 (dk_at dksX8_pane_4 4 rfl rfl)
theorem dX8_pane_101 : decode cX8_pane 101 = .ok (.aload_n 0, 1) := dk_42 (dk_at dksX8_pane_4 5 rfl rfl)
theorem dX8_pane_102 : decode cX8_pane 102 = .ok (.dup, 1) := dk_89 (dk_at dksX8_pane_4 6 rfl rfl)
theorem dX8_pane_103 : decode cX8_pane 103 = .ok (.getfield 128, 3) := dk_180 0 128 (dk_at dksX8_pane_4 7 rfl rfl)
theorem dX8_pane_106 : decode cX8_pane 106 = .ok (.iconst 1, 1) := dk_4 (dk_at dksX8_pane_4 10 rfl rfl)
theorem dX8_pane_107 : decode cX8_pane 107 = .ok (.aload_n 0, 1) := dk_42 (dk_at dksX8_pane_4 11 rfl rfl)
theorem dX8_pane_108 : decode cX8_pane 108 = .ok (.getfield 85, 3) := dk_180 0 85 (dk_at dksX8_pane_4 12 rfl rfl)
theorem dX8_pane_111 : decode cX8_pane 111 = .ok (.ishl, 1) := dk_120 (dk_at dksX8_pane_4 15 rfl rfl)
theorem dX8_pane_112 : decode cX8_pane 112 = .ok (.iconst (-1), 1) := dk_2 (dk_at dksX8_pane_4 16 rfl rfl)
theorem dX8_pane_113 : decode cX8_pane 113 = .ok (.ixor, 1) := dk_130 (dk_at dksX8_pane_4 17 rfl rfl)
theorem dX8_pane_114 : decode cX8_pane 114 = .ok (.iand, 1) := dk_126 (dk_at dksX8_pane_4 18 rfl rfl)
theorem dX8_pane_115 : decode cX8_pane 115 = .ok (.putfield 128, 3) := dk_181 0 128 (dk_at dksX8_pane_4 19 rfl rfl)
theorem dX8_pane_118 : decode cX8_pane 118 = .ok (.aload_n 0, 1) := dk_42 (dk_at dksX8_pane_4 22 rfl rfl)
theorem dX8_pane_119 : decode cX8_pane 119 = .ok (.dup, 1) := dk_89 (dk_at dksX8_pane_4 23 rfl rfl)
theorem dX8_pane_120 : decode cX8_pane 120 = .ok (.getfield 85, 3) := dk_180 0 85 (dk_at dksX8_pane_5 0 rfl rfl)
theorem dX8_pane_123 : decode cX8_pane 123 = .ok (.iconst 1, 1) := dk_4 (dk_at dksX8_pane_5 3 rfl rfl)
theorem dX8_pane_124 : decode cX8_pane 124 = .ok (.iadd, 1) := dk_96 (dk_at dksX8_pane_5 4 rfl rfl)
theorem dX8_pane_125 : decode cX8_pane 125 = .ok (.putfield 85, 3) := dk_181 0 85 (dk_at dksX8_pane_5 5 rfl rfl)
theorem dX8_pane_128 : decode cX8_pane 128 = .ok (.aload_n 0, 1) := dk_42 (dk_at dksX8_pane_5 8 rfl rfl)
theorem dX8_pane_129 : decode cX8_pane 129 = .ok (.getfield 85, 3) := dk_180 0 85 (dk_at dksX8_pane_5 9 rfl rfl)
theorem dX8_pane_132 : decode cX8_pane 132 = .ok (.iconst 1, 1) := dk_4 (dk_at dksX8_pane_5 12 rfl rfl)
theorem dX8_pane_133 : decode cX8_pane 133 = .ok (.isub, 1) := dk_100 (dk_at dksX8_pane_5 13 rfl rfl)
theorem dX8_pane_134 : decode cX8_pane 134 = .ok (.ireturn, 1) := dk_172 (dk_at dksX8_pane_5 14 rfl rfl)
abbrev cX8_glaze : ByteArray := prog_16_method_15_code
def yX8_glaze : MethodName := ⟨RX8, "glaze", "(II)I"⟩
def dkwX8_glaze_4 : List UInt8 := [180, 0, 29, 27, 28, 79, 29, 172]
abbrev dktX8_glaze_4 : List UInt8 := dkwX8_glaze_4 ++ []
def dkwX8_glaze_3 : List UInt8 := [160, 0, 7, 2, 167, 0, 10, 42, 180, 0, 29, 21, 4, 46, 79, 132, 4, 1, 167, 255, 213, 42]
abbrev dktX8_glaze_3 : List UInt8 := dkwX8_glaze_3 ++ dktX8_glaze_4
def dkwX8_glaze_2 : List UInt8 := [162, 0, 43, 42, 180, 0, 29, 21, 4, 28, 2, 159, 0, 18, 42, 180, 0, 29, 21, 4, 46, 28]
abbrev dktX8_glaze_2 : List UInt8 := dkwX8_glaze_2 ++ dktX8_glaze_3
def dkwX8_glaze_1 : List UInt8 := [28, 182, 0, 131, 153, 0, 6, 16, 253, 172, 42, 180, 0, 29, 27, 46, 62, 3, 54, 4, 21, 4, 7]
abbrev dktX8_glaze_1 : List UInt8 := dkwX8_glaze_1 ++ dktX8_glaze_2
def dkwX8_glaze_0 : List UInt8 := [27, 184, 0, 94, 153, 0, 16, 28, 2, 159, 0, 14, 42, 28, 182, 0, 98, 154, 0, 6, 16, 254, 172, 42]
abbrev dktX8_glaze_0 : List UInt8 := dkwX8_glaze_0 ++ dktX8_glaze_1
theorem dksX8_glaze_0 : cX8_glaze.data.toList.drop 0 = dktX8_glaze_0 := by decide +kernel
theorem dksX8_glaze_1 : cX8_glaze.data.toList.drop 24 = dktX8_glaze_1 := dk_seg dksX8_glaze_0 24 rfl rfl
theorem dksX8_glaze_2 : cX8_glaze.data.toList.drop 47 = dktX8_glaze_2 := dk_seg dksX8_glaze_1 23 rfl rfl
theorem dksX8_glaze_3 : cX8_glaze.data.toList.drop 69 = dktX8_glaze_3 := dk_seg dksX8_glaze_2 22 rfl rfl
theorem dksX8_glaze_4 : cX8_glaze.data.toList.drop 91 = dktX8_glaze_4 := dk_seg dksX8_glaze_3 22 rfl rfl
theorem dX8_glaze_0 : decode cX8_glaze 0 = .ok (.iload_n 1, 1) := dk_27 (dk_at dksX8_glaze_0 0 rfl rfl)
theorem dX8_glaze_1 : decode cX8_glaze 1 = .ok (.invokestatic 94, 3) := dk_184 0 94 (dk_at dksX8_glaze_0 1 rfl rfl)
theorem dX8_glaze_4 : decode cX8_glaze 4 = .ok (.ifCond .eq 16, 3) := dk_153 0 16 (dk_at dksX8_glaze_0 4 rfl rfl)
theorem dX8_glaze_7 : decode cX8_glaze 7 = .ok (.iload_n 2, 1) := dk_28 (dk_at dksX8_glaze_0 7 rfl rfl)
theorem dX8_glaze_8 : decode cX8_glaze 8 = .ok (.iconst (-1), 1) := dk_2 (dk_at dksX8_glaze_0 8 rfl rfl)
theorem dX8_glaze_9 : decode cX8_glaze 9 = .ok (.if_icmp .eq 14, 3) := dk_159 0 14 (dk_at dksX8_glaze_0 9 rfl rfl)
theorem dX8_glaze_12 : decode cX8_glaze 12 = .ok (.aload_n 0, 1) := dk_42 (dk_at dksX8_glaze_0 12 rfl rfl)
theorem dX8_glaze_13 : decode cX8_glaze 13 = .ok (.iload_n 2, 1) := dk_28 (dk_at dksX8_glaze_0 13 rfl rfl)
theorem dX8_glaze_14 : decode cX8_glaze 14 = .ok (.invokevirtual 98, 3) := dk_182 0 98 (dk_at dksX8_glaze_0 14 rfl rfl)
theorem dX8_glaze_17 : decode cX8_glaze 17 = .ok (.ifCond .ne 6, 3) := dk_154 0 6 (dk_at dksX8_glaze_0 17 rfl rfl)
theorem dX8_glaze_20 : decode cX8_glaze 20 = .ok (.bipush (-2), 2) := dk_16 254 (dk_at dksX8_glaze_0 20 rfl rfl)
theorem dX8_glaze_22 : decode cX8_glaze 22 = .ok (.ireturn, 1) := dk_172 (dk_at dksX8_glaze_0 22 rfl rfl)
theorem dX8_glaze_23 : decode cX8_glaze 23 = .ok (.aload_n 0, 1) := dk_42 (dk_at dksX8_glaze_0 23 rfl rfl)
theorem dX8_glaze_24 : decode cX8_glaze 24 = .ok (.iload_n 2, 1) := dk_28 (dk_at dksX8_glaze_1 0 rfl rfl)
theorem dX8_glaze_25 : decode cX8_glaze 25 = .ok (.invokevirtual 131, 3) := dk_182 0 131 (dk_at dksX8_glaze_1 1 rfl rfl)
theorem dX8_glaze_28 : decode cX8_glaze 28 = .ok (.ifCond .eq 6, 3) := dk_153 0 6 (dk_at dksX8_glaze_1 4 rfl rfl)
theorem dX8_glaze_31 : decode cX8_glaze 31 = .ok (.bipush (-3), 2) := dk_16 253 (dk_at dksX8_glaze_1 7 rfl rfl)
theorem dX8_glaze_33 : decode cX8_glaze 33 = .ok (.ireturn, 1) := dk_172 (dk_at dksX8_glaze_1 9 rfl rfl)
theorem dX8_glaze_34 : decode cX8_glaze 34 = .ok (.aload_n 0, 1) := dk_42 (dk_at dksX8_glaze_1 10 rfl rfl)
theorem dX8_glaze_35 : decode cX8_glaze 35 = .ok (.getfield 29, 3) := dk_180 0 29 (dk_at dksX8_glaze_1 11 rfl rfl)
theorem dX8_glaze_38 : decode cX8_glaze 38 = .ok (.iload_n 1, 1) := dk_27 (dk_at dksX8_glaze_1 14 rfl rfl)
theorem dX8_glaze_39 : decode cX8_glaze 39 = .ok (.iaload, 1) := dk_46 (dk_at dksX8_glaze_1 15 rfl rfl)
theorem dX8_glaze_40 : decode cX8_glaze 40 = .ok (.istore_n 3, 1) := dk_62 (dk_at dksX8_glaze_1 16 rfl rfl)
theorem dX8_glaze_41 : decode cX8_glaze 41 = .ok (.iconst 0, 1) := dk_3 (dk_at dksX8_glaze_1 17 rfl rfl)
theorem dX8_glaze_42 : decode cX8_glaze 42 = .ok (.istore 4, 2) := dk_54 4 (dk_at dksX8_glaze_1 18 rfl rfl)
theorem dX8_glaze_44 : decode cX8_glaze 44 = .ok (.iload 4, 2) := dk_21 4 (dk_at dksX8_glaze_1 20 rfl rfl)
theorem dX8_glaze_46 : decode cX8_glaze 46 = .ok (.iconst 4, 1) := dk_7 (dk_at dksX8_glaze_1 22 rfl rfl)
theorem dX8_glaze_47 : decode cX8_glaze 47 = .ok (.if_icmp .ge 43, 3) := dk_162 0 43 (dk_at dksX8_glaze_2 0 rfl rfl)
theorem dX8_glaze_50 : decode cX8_glaze 50 = .ok (.aload_n 0, 1) := dk_42 (dk_at dksX8_glaze_2 3 rfl rfl)
theorem dX8_glaze_51 : decode cX8_glaze 51 = .ok (.getfield 29, 3) := dk_180 0 29 (dk_at dksX8_glaze_2 4 rfl rfl)
theorem dX8_glaze_54 : decode cX8_glaze 54 = .ok (.iload 4, 2) := dk_21 4 (dk_at dksX8_glaze_2 7 rfl rfl)
theorem dX8_glaze_56 : decode cX8_glaze 56 = .ok (.iload_n 2, 1) := dk_28 (dk_at dksX8_glaze_2 9 rfl rfl)
theorem dX8_glaze_57 : decode cX8_glaze 57 = .ok (.iconst (-1), 1) := dk_2 (dk_at dksX8_glaze_2 10 rfl rfl)
theorem dX8_glaze_58 : decode cX8_glaze 58 = .ok (.if_icmp .eq 18, 3) := dk_159 0 18 (dk_at dksX8_glaze_2 11 rfl rfl)
theorem dX8_glaze_61 : decode cX8_glaze 61 = .ok (.aload_n 0, 1) := dk_42 (dk_at dksX8_glaze_2 14 rfl rfl)
theorem dX8_glaze_62 : decode cX8_glaze 62 = .ok (.getfield 29, 3) := dk_180 0 29 (dk_at dksX8_glaze_2 15 rfl rfl)
theorem dX8_glaze_65 : decode cX8_glaze 65 = .ok (.iload 4, 2) := dk_21 4 (dk_at dksX8_glaze_2 18 rfl rfl)
theorem dX8_glaze_67 : decode cX8_glaze 67 = .ok (.iaload, 1) := dk_46 (dk_at dksX8_glaze_2 20 rfl rfl)
theorem dX8_glaze_68 : decode cX8_glaze 68 = .ok (.iload_n 2, 1) := dk_28 (dk_at dksX8_glaze_2 21 rfl rfl)
theorem dX8_glaze_69 : decode cX8_glaze 69 = .ok (.if_icmp .ne 7, 3) := dk_160 0 7 (dk_at dksX8_glaze_3 0 rfl rfl)
theorem dX8_glaze_72 : decode cX8_glaze 72 = .ok (.iconst (-1), 1) := dk_2 (dk_at dksX8_glaze_3 3 rfl rfl)
theorem dX8_glaze_73 : decode cX8_glaze 73 = .ok (.goto 10, 3) := dk_167 0 10 (dk_at dksX8_glaze_3 4 rfl rfl)
theorem dX8_glaze_76 : decode cX8_glaze 76 = .ok (.aload_n 0, 1) := dk_42 (dk_at dksX8_glaze_3 7 rfl rfl)
theorem dX8_glaze_77 : decode cX8_glaze 77 = .ok (.getfield 29, 3) := dk_180 0 29 (dk_at dksX8_glaze_3 8 rfl rfl)
theorem dX8_glaze_80 : decode cX8_glaze 80 = .ok (.iload 4, 2) := dk_21 4 (dk_at dksX8_glaze_3 11 rfl rfl)
theorem dX8_glaze_82 : decode cX8_glaze 82 = .ok (.iaload, 1) := dk_46 (dk_at dksX8_glaze_3 13 rfl rfl)
theorem dX8_glaze_83 : decode cX8_glaze 83 = .ok (.iastore, 1) := dk_79 (dk_at dksX8_glaze_3 14 rfl rfl)
theorem dX8_glaze_84 : decode cX8_glaze 84 = .ok (.iinc 4 1, 3) := dk_132 4 1 (dk_at dksX8_glaze_3 15 rfl rfl)
theorem dX8_glaze_87 : decode cX8_glaze 87 = .ok (.goto (-43), 3) := dk_167 255 213 (dk_at dksX8_glaze_3 18 rfl rfl)
theorem dX8_glaze_90 : decode cX8_glaze 90 = .ok (.aload_n 0, 1) := dk_42 (dk_at dksX8_glaze_3 21 rfl rfl)
theorem dX8_glaze_91 : decode cX8_glaze 91 = .ok (.getfield 29, 3) := dk_180 0 29 (dk_at dksX8_glaze_4 0 rfl rfl)
theorem dX8_glaze_94 : decode cX8_glaze 94 = .ok (.iload_n 1, 1) := dk_27 (dk_at dksX8_glaze_4 3 rfl rfl)
theorem dX8_glaze_95 : decode cX8_glaze 95 = .ok (.iload_n 2, 1) := dk_28 (dk_at dksX8_glaze_4 4 rfl rfl)
theorem dX8_glaze_96 : decode cX8_glaze 96 = .ok (.iastore, 1) := dk_79 (dk_at dksX8_glaze_4 5 rfl rfl)
theorem dX8_glaze_97 : decode cX8_glaze 97 = .ok (.iload_n 3, 1) := dk_29 (dk_at dksX8_glaze_4 6 rfl rfl)
theorem dX8_glaze_98 : decode cX8_glaze 98 = .ok (.ireturn, 1) := dk_172 (dk_at dksX8_glaze_4 7 rfl rfl)
abbrev cX8_stone : ByteArray := prog_16_method_16_code
def yX8_stone : MethodName := ⟨RX8, "stone", "(I)I"⟩
def dkwX8_stone_2 : List UInt8 := [182, 0, 134, 172]
abbrev dktX8_stone_2 : List UInt8 := dkwX8_stone_2 ++ []
def dkwX8_stone_1 : List UInt8 := [182, 0, 131, 153, 0, 6, 16, 253, 172, 42, 89, 180, 0, 128, 4, 28, 120, 128, 181, 0, 128, 42, 27]
abbrev dktX8_stone_1 : List UInt8 := dkwX8_stone_1 ++ dktX8_stone_2
def dkwX8_stone_0 : List UInt8 := [27, 184, 0, 94, 154, 0, 6, 16, 254, 172, 42, 180, 0, 29, 27, 46, 61, 28, 2, 159, 0, 11, 42, 28]
abbrev dktX8_stone_0 : List UInt8 := dkwX8_stone_0 ++ dktX8_stone_1
theorem dksX8_stone_0 : cX8_stone.data.toList.drop 0 = dktX8_stone_0 := by decide +kernel
theorem dksX8_stone_1 : cX8_stone.data.toList.drop 24 = dktX8_stone_1 := dk_seg dksX8_stone_0 24 rfl rfl
theorem dksX8_stone_2 : cX8_stone.data.toList.drop 47 = dktX8_stone_2 := dk_seg dksX8_stone_1 23 rfl rfl
theorem dX8_stone_0 : decode cX8_stone 0 = .ok (.iload_n 1, 1) := dk_27 (dk_at dksX8_stone_0 0 rfl rfl)
theorem dX8_stone_1 : decode cX8_stone 1 = .ok (.invokestatic 94, 3) := dk_184 0 94 (dk_at dksX8_stone_0 1 rfl rfl)
theorem dX8_stone_4 : decode cX8_stone 4 = .ok (.ifCond .ne 6, 3) := dk_154 0 6 (dk_at dksX8_stone_0 4 rfl rfl)
theorem dX8_stone_7 : decode cX8_stone 7 = .ok (.bipush (-2), 2) := dk_16 254 (dk_at dksX8_stone_0 7 rfl rfl)
theorem dX8_stone_9 : decode cX8_stone 9 = .ok (.ireturn, 1) := dk_172 (dk_at dksX8_stone_0 9 rfl rfl)
theorem dX8_stone_10 : decode cX8_stone 10 = .ok (.aload_n 0, 1) := dk_42 (dk_at dksX8_stone_0 10 rfl rfl)
theorem dX8_stone_11 : decode cX8_stone 11 = .ok (.getfield 29, 3) := dk_180 0 29 (dk_at dksX8_stone_0 11 rfl rfl)
theorem dX8_stone_14 : decode cX8_stone 14 = .ok (.iload_n 1, 1) := dk_27 (dk_at dksX8_stone_0 14 rfl rfl)
theorem dX8_stone_15 : decode cX8_stone 15 = .ok (.iaload, 1) := dk_46 (dk_at dksX8_stone_0 15 rfl rfl)
theorem dX8_stone_16 : decode cX8_stone 16 = .ok (.istore_n 2, 1) := dk_61 (dk_at dksX8_stone_0 16 rfl rfl)
theorem dX8_stone_17 : decode cX8_stone 17 = .ok (.iload_n 2, 1) := dk_28 (dk_at dksX8_stone_0 17 rfl rfl)
theorem dX8_stone_18 : decode cX8_stone 18 = .ok (.iconst (-1), 1) := dk_2 (dk_at dksX8_stone_0 18 rfl rfl)
theorem dX8_stone_19 : decode cX8_stone 19 = .ok (.if_icmp .eq 11, 3) := dk_159 0 11 (dk_at dksX8_stone_0 19 rfl rfl)
theorem dX8_stone_22 : decode cX8_stone 22 = .ok (.aload_n 0, 1) := dk_42 (dk_at dksX8_stone_0 22 rfl rfl)
theorem dX8_stone_23 : decode cX8_stone 23 = .ok (.iload_n 2, 1) := dk_28 (dk_at dksX8_stone_0 23 rfl rfl)
theorem dX8_stone_24 : decode cX8_stone 24 = .ok (.invokevirtual 131, 3) := dk_182 0 131 (dk_at dksX8_stone_1 0 rfl rfl)
theorem dX8_stone_27 : decode cX8_stone 27 = .ok (.ifCond .eq 6, 3) := dk_153 0 6 (dk_at dksX8_stone_1 3 rfl rfl)
theorem dX8_stone_30 : decode cX8_stone 30 = .ok (.bipush (-3), 2) := dk_16 253 (dk_at dksX8_stone_1 6 rfl rfl)
theorem dX8_stone_32 : decode cX8_stone 32 = .ok (.ireturn, 1) := dk_172 (dk_at dksX8_stone_1 8 rfl rfl)
theorem dX8_stone_33 : decode cX8_stone 33 = .ok (.aload_n 0, 1) := dk_42 (dk_at dksX8_stone_1 9 rfl rfl)
theorem dX8_stone_34 : decode cX8_stone 34 = .ok (.dup, 1) := dk_89 (dk_at dksX8_stone_1 10 rfl rfl)
theorem dX8_stone_35 : decode cX8_stone 35 = .ok (.getfield 128, 3) := dk_180 0 128 (dk_at dksX8_stone_1 11 rfl rfl)
theorem dX8_stone_38 : decode cX8_stone 38 = .ok (.iconst 1, 1) := dk_4 (dk_at dksX8_stone_1 14 rfl rfl)
theorem dX8_stone_39 : decode cX8_stone 39 = .ok (.iload_n 2, 1) := dk_28 (dk_at dksX8_stone_1 15 rfl rfl)
theorem dX8_stone_40 : decode cX8_stone 40 = .ok (.ishl, 1) := dk_120 (dk_at dksX8_stone_1 16 rfl rfl)
theorem dX8_stone_41 : decode cX8_stone 41 = .ok (.ior, 1) := dk_128 (dk_at dksX8_stone_1 17 rfl rfl)
theorem dX8_stone_42 : decode cX8_stone 42 = .ok (.putfield 128, 3) := dk_181 0 128 (dk_at dksX8_stone_1 18 rfl rfl)
theorem dX8_stone_45 : decode cX8_stone 45 = .ok (.aload_n 0, 1) := dk_42 (dk_at dksX8_stone_1 21 rfl rfl)
theorem dX8_stone_46 : decode cX8_stone 46 = .ok (.iload_n 1, 1) := dk_27 (dk_at dksX8_stone_1 22 rfl rfl)
theorem dX8_stone_47 : decode cX8_stone 47 = .ok (.invokevirtual 134, 3) := dk_182 0 134 (dk_at dksX8_stone_2 0 rfl rfl)
theorem dX8_stone_50 : decode cX8_stone 50 = .ok (.ireturn, 1) := dk_172 (dk_at dksX8_stone_2 3 rfl rfl)
abbrev cX8_spiltFrom : ByteArray := prog_16_method_41_code
def yX8_spiltFrom : MethodName := ⟨RX8, "spiltFrom", "(I)I"⟩
def dkwX8_spiltFrom_2 : List UInt8 := [128, 62, 132, 4, 1, 167, 255, 220, 29, 172]
abbrev dktX8_spiltFrom_2 : List UInt8 := dkwX8_spiltFrom_2 ++ []
def dkwX8_spiltFrom_1 : List UInt8 := [21, 4, 27, 100, 133, 28, 116, 133, 28, 133, 184, 0, 88, 153, 0, 7, 4, 167, 0, 4, 3, 21, 4, 120]
abbrev dktX8_spiltFrom_1 : List UInt8 := dkwX8_spiltFrom_1 ++ dktX8_spiltFrom_2
def dkwX8_spiltFrom_0 : List UInt8 := [42, 42, 180, 0, 29, 27, 46, 182, 0, 148, 61, 3, 62, 3, 54, 4, 21, 4, 7, 162, 0, 36, 29]
abbrev dktX8_spiltFrom_0 : List UInt8 := dkwX8_spiltFrom_0 ++ dktX8_spiltFrom_1
theorem dksX8_spiltFrom_0 : cX8_spiltFrom.data.toList.drop 0 = dktX8_spiltFrom_0 := by decide +kernel
theorem dksX8_spiltFrom_1 : cX8_spiltFrom.data.toList.drop 23 = dktX8_spiltFrom_1 := dk_seg dksX8_spiltFrom_0 23 rfl rfl
theorem dksX8_spiltFrom_2 : cX8_spiltFrom.data.toList.drop 47 = dktX8_spiltFrom_2 := dk_seg dksX8_spiltFrom_1 24 rfl rfl
theorem dX8_spiltFrom_0 : decode cX8_spiltFrom 0 = .ok (.aload_n 0, 1) := dk_42 (dk_at dksX8_spiltFrom_0 0 rfl rfl)
theorem dX8_spiltFrom_1 : decode cX8_spiltFrom 1 = .ok (.aload_n 0, 1) := dk_42 (dk_at dksX8_spiltFrom_0 1 rfl rfl)
theorem dX8_spiltFrom_2 : decode cX8_spiltFrom 2 = .ok (.getfield 29, 3) := dk_180 0 29 (dk_at dksX8_spiltFrom_0 2 rfl rfl)
theorem dX8_spiltFrom_5 : decode cX8_spiltFrom 5 = .ok (.iload_n 1, 1) := dk_27 (dk_at dksX8_spiltFrom_0 5 rfl rfl)
theorem dX8_spiltFrom_6 : decode cX8_spiltFrom 6 = .ok (.iaload, 1) := dk_46 (dk_at dksX8_spiltFrom_0 6 rfl rfl)
theorem dX8_spiltFrom_7 : decode cX8_spiltFrom 7 = .ok (.invokevirtual 148, 3) := dk_182 0 148 (dk_at dksX8_spiltFrom_0 7 rfl rfl)
theorem dX8_spiltFrom_10 : decode cX8_spiltFrom 10 = .ok (.istore_n 2, 1) := dk_61 (dk_at dksX8_spiltFrom_0 10 rfl rfl)
theorem dX8_spiltFrom_11 : decode cX8_spiltFrom 11 = .ok (.iconst 0, 1) := dk_3 (dk_at dksX8_spiltFrom_0 11 rfl rfl)
theorem dX8_spiltFrom_12 : decode cX8_spiltFrom 12 = .ok (.istore_n 3, 1) := dk_62 (dk_at dksX8_spiltFrom_0 12 rfl rfl)
theorem dX8_spiltFrom_13 : decode cX8_spiltFrom 13 = .ok (.iconst 0, 1) := dk_3 (dk_at dksX8_spiltFrom_0 13 rfl rfl)
theorem dX8_spiltFrom_14 : decode cX8_spiltFrom 14 = .ok (.istore 4, 2) := dk_54 4 (dk_at dksX8_spiltFrom_0 14 rfl rfl)
theorem dX8_spiltFrom_16 : decode cX8_spiltFrom 16 = .ok (.iload 4, 2) := dk_21 4 (dk_at dksX8_spiltFrom_0 16 rfl rfl)
theorem dX8_spiltFrom_18 : decode cX8_spiltFrom 18 = .ok (.iconst 4, 1) := dk_7 (dk_at dksX8_spiltFrom_0 18 rfl rfl)
theorem dX8_spiltFrom_19 : decode cX8_spiltFrom 19 = .ok (.if_icmp .ge 36, 3) := dk_162 0 36 (dk_at dksX8_spiltFrom_0 19 rfl rfl)
theorem dX8_spiltFrom_22 : decode cX8_spiltFrom 22 = .ok (.iload_n 3, 1) := dk_29 (dk_at dksX8_spiltFrom_0 22 rfl rfl)
theorem dX8_spiltFrom_23 : decode cX8_spiltFrom 23 = .ok (.iload 4, 2) := dk_21 4 (dk_at dksX8_spiltFrom_1 0 rfl rfl)
theorem dX8_spiltFrom_25 : decode cX8_spiltFrom 25 = .ok (.iload_n 1, 1) := dk_27 (dk_at dksX8_spiltFrom_1 2 rfl rfl)
theorem dX8_spiltFrom_26 : decode cX8_spiltFrom 26 = .ok (.isub, 1) := dk_100 (dk_at dksX8_spiltFrom_1 3 rfl rfl)
theorem dX8_spiltFrom_27 : decode cX8_spiltFrom 27 = .ok (.i2l, 1) := dk_133 (dk_at dksX8_spiltFrom_1 4 rfl rfl)
theorem dX8_spiltFrom_28 : decode cX8_spiltFrom 28 = .ok (.iload_n 2, 1) := dk_28 (dk_at dksX8_spiltFrom_1 5 rfl rfl)
theorem dX8_spiltFrom_29 : decode cX8_spiltFrom 29 = .ok (.ineg, 1) := dk_116 (dk_at dksX8_spiltFrom_1 6 rfl rfl)
theorem dX8_spiltFrom_30 : decode cX8_spiltFrom 30 = .ok (.i2l, 1) := dk_133 (dk_at dksX8_spiltFrom_1 7 rfl rfl)
theorem dX8_spiltFrom_31 : decode cX8_spiltFrom 31 = .ok (.iload_n 2, 1) := dk_28 (dk_at dksX8_spiltFrom_1 8 rfl rfl)
theorem dX8_spiltFrom_32 : decode cX8_spiltFrom 32 = .ok (.i2l, 1) := dk_133 (dk_at dksX8_spiltFrom_1 9 rfl rfl)
theorem dX8_spiltFrom_33 : decode cX8_spiltFrom 33 = .ok (.invokestatic 88, 3) := dk_184 0 88 (dk_at dksX8_spiltFrom_1 10 rfl rfl)
theorem dX8_spiltFrom_36 : decode cX8_spiltFrom 36 = .ok (.ifCond .eq 7, 3) := dk_153 0 7 (dk_at dksX8_spiltFrom_1 13 rfl rfl)
theorem dX8_spiltFrom_39 : decode cX8_spiltFrom 39 = .ok (.iconst 1, 1) := dk_4 (dk_at dksX8_spiltFrom_1 16 rfl rfl)
theorem dX8_spiltFrom_40 : decode cX8_spiltFrom 40 = .ok (.goto 4, 3) := dk_167 0 4 (dk_at dksX8_spiltFrom_1 17 rfl rfl)
theorem dX8_spiltFrom_43 : decode cX8_spiltFrom 43 = .ok (.iconst 0, 1) := dk_3 (dk_at dksX8_spiltFrom_1 20 rfl rfl)
theorem dX8_spiltFrom_44 : decode cX8_spiltFrom 44 = .ok (.iload 4, 2) := dk_21 4 (dk_at dksX8_spiltFrom_1 21 rfl rfl)
theorem dX8_spiltFrom_46 : decode cX8_spiltFrom 46 = .ok (.ishl, 1) := dk_120 (dk_at dksX8_spiltFrom_1 23 rfl rfl)
theorem dX8_spiltFrom_47 : decode cX8_spiltFrom 47 = .ok (.ior, 1) := dk_128 (dk_at dksX8_spiltFrom_2 0 rfl rfl)
theorem dX8_spiltFrom_48 : decode cX8_spiltFrom 48 = .ok (.istore_n 3, 1) := dk_62 (dk_at dksX8_spiltFrom_2 1 rfl rfl)
theorem dX8_spiltFrom_49 : decode cX8_spiltFrom 49 = .ok (.iinc 4 1, 3) := dk_132 4 1 (dk_at dksX8_spiltFrom_2 2 rfl rfl)
theorem dX8_spiltFrom_52 : decode cX8_spiltFrom 52 = .ok (.goto (-36), 3) := dk_167 255 220 (dk_at dksX8_spiltFrom_2 5 rfl rfl)
theorem dX8_spiltFrom_55 : decode cX8_spiltFrom 55 = .ok (.iload_n 3, 1) := dk_29 (dk_at dksX8_spiltFrom_2 8 rfl rfl)
theorem dX8_spiltFrom_56 : decode cX8_spiltFrom 56 = .ok (.ireturn, 1) := dk_172 (dk_at dksX8_spiltFrom_2 9 rfl rfl)
abbrev cX8_feed : ByteArray := prog_16_method_18_code
def yX8_feed : MethodName := ⟨RX8, "feed", "(I)I"⟩
def dkwX8_feed_2 : List UInt8 := [181, 0, 153, 42, 180, 0, 153, 172]
abbrev dktX8_feed_2 : List UInt8 := dkwX8_feed_2 ++ []
def dkwX8_feed_1 : List UInt8 := [160, 0, 6, 16, 252, 172, 42, 180, 0, 20, 42, 180, 0, 153, 27, 79, 42, 89, 180, 0, 153, 4, 96]
abbrev dktX8_feed_1 : List UInt8 := dkwX8_feed_1 ++ dktX8_feed_2
def dkwX8_feed_0 : List UInt8 := [27, 133, 9, 20, 0, 151, 184, 0, 88, 154, 0, 6, 16, 254, 172, 42, 180, 0, 153, 17, 0, 160]
abbrev dktX8_feed_0 : List UInt8 := dkwX8_feed_0 ++ dktX8_feed_1
theorem dksX8_feed_0 : cX8_feed.data.toList.drop 0 = dktX8_feed_0 := by decide +kernel
theorem dksX8_feed_1 : cX8_feed.data.toList.drop 22 = dktX8_feed_1 := dk_seg dksX8_feed_0 22 rfl rfl
theorem dksX8_feed_2 : cX8_feed.data.toList.drop 45 = dktX8_feed_2 := dk_seg dksX8_feed_1 23 rfl rfl
theorem dX8_feed_0 : decode cX8_feed 0 = .ok (.iload_n 1, 1) := dk_27 (dk_at dksX8_feed_0 0 rfl rfl)
theorem dX8_feed_1 : decode cX8_feed 1 = .ok (.i2l, 1) := dk_133 (dk_at dksX8_feed_0 1 rfl rfl)
theorem dX8_feed_2 : decode cX8_feed 2 = .ok (.lconst 0, 1) := dk_9 (dk_at dksX8_feed_0 2 rfl rfl)
theorem dX8_feed_3 : decode cX8_feed 3 = .ok (.ldc2_w 151, 3) := dk_20 0 151 (dk_at dksX8_feed_0 3 rfl rfl)
theorem dX8_feed_6 : decode cX8_feed 6 = .ok (.invokestatic 88, 3) := dk_184 0 88 (dk_at dksX8_feed_0 6 rfl rfl)
theorem dX8_feed_9 : decode cX8_feed 9 = .ok (.ifCond .ne 6, 3) := dk_154 0 6 (dk_at dksX8_feed_0 9 rfl rfl)
theorem dX8_feed_12 : decode cX8_feed 12 = .ok (.bipush (-2), 2) := dk_16 254 (dk_at dksX8_feed_0 12 rfl rfl)
theorem dX8_feed_14 : decode cX8_feed 14 = .ok (.ireturn, 1) := dk_172 (dk_at dksX8_feed_0 14 rfl rfl)
theorem dX8_feed_15 : decode cX8_feed 15 = .ok (.aload_n 0, 1) := dk_42 (dk_at dksX8_feed_0 15 rfl rfl)
theorem dX8_feed_16 : decode cX8_feed 16 = .ok (.getfield 153, 3) := dk_180 0 153 (dk_at dksX8_feed_0 16 rfl rfl)
theorem dX8_feed_19 : decode cX8_feed 19 = .ok (.sipush 160, 3) := dk_17 0 160 (dk_at dksX8_feed_0 19 rfl rfl)
theorem dX8_feed_22 : decode cX8_feed 22 = .ok (.if_icmp .ne 6, 3) := dk_160 0 6 (dk_at dksX8_feed_1 0 rfl rfl)
theorem dX8_feed_25 : decode cX8_feed 25 = .ok (.bipush (-4), 2) := dk_16 252 (dk_at dksX8_feed_1 3 rfl rfl)
theorem dX8_feed_27 : decode cX8_feed 27 = .ok (.ireturn, 1) := dk_172 (dk_at dksX8_feed_1 5 rfl rfl)
theorem dX8_feed_28 : decode cX8_feed 28 = .ok (.aload_n 0, 1) := dk_42 (dk_at dksX8_feed_1 6 rfl rfl)
theorem dX8_feed_29 : decode cX8_feed 29 = .ok (.getfield 20, 3) := dk_180 0 20 (dk_at dksX8_feed_1 7 rfl rfl)
theorem dX8_feed_32 : decode cX8_feed 32 = .ok (.aload_n 0, 1) := dk_42 (dk_at dksX8_feed_1 10 rfl rfl)
theorem dX8_feed_33 : decode cX8_feed 33 = .ok (.getfield 153, 3) := dk_180 0 153 (dk_at dksX8_feed_1 11 rfl rfl)
theorem dX8_feed_36 : decode cX8_feed 36 = .ok (.iload_n 1, 1) := dk_27 (dk_at dksX8_feed_1 14 rfl rfl)
theorem dX8_feed_37 : decode cX8_feed 37 = .ok (.iastore, 1) := dk_79 (dk_at dksX8_feed_1 15 rfl rfl)
theorem dX8_feed_38 : decode cX8_feed 38 = .ok (.aload_n 0, 1) := dk_42 (dk_at dksX8_feed_1 16 rfl rfl)
theorem dX8_feed_39 : decode cX8_feed 39 = .ok (.dup, 1) := dk_89 (dk_at dksX8_feed_1 17 rfl rfl)
theorem dX8_feed_40 : decode cX8_feed 40 = .ok (.getfield 153, 3) := dk_180 0 153 (dk_at dksX8_feed_1 18 rfl rfl)
theorem dX8_feed_43 : decode cX8_feed 43 = .ok (.iconst 1, 1) := dk_4 (dk_at dksX8_feed_1 21 rfl rfl)
theorem dX8_feed_44 : decode cX8_feed 44 = .ok (.iadd, 1) := dk_96 (dk_at dksX8_feed_1 22 rfl rfl)
theorem dX8_feed_45 : decode cX8_feed 45 = .ok (.putfield 153, 3) := dk_181 0 153 (dk_at dksX8_feed_2 0 rfl rfl)
theorem dX8_feed_48 : decode cX8_feed 48 = .ok (.aload_n 0, 1) := dk_42 (dk_at dksX8_feed_2 3 rfl rfl)
theorem dX8_feed_49 : decode cX8_feed 49 = .ok (.getfield 153, 3) := dk_180 0 153 (dk_at dksX8_feed_2 4 rfl rfl)
theorem dX8_feed_52 : decode cX8_feed 52 = .ok (.ireturn, 1) := dk_172 (dk_at dksX8_feed_2 7 rfl rfl)
abbrev cX8_text : ByteArray := prog_16_method_35_code
def yX8_text : MethodName := ⟨RX8, "text", "()I"⟩
def dkwX8_text_4 : List UInt8 := [89, 180, 0, 82, 4, 96, 181, 0, 82, 42, 180, 0, 82, 4, 100, 172]
abbrev dktX8_text_4 : List UInt8 := dkwX8_text_4 ++ []
def dkwX8_text_3 : List UInt8 := [180, 0, 82, 3, 182, 1, 10, 60, 42, 180, 0, 188, 153, 0, 11, 16, 156, 42, 180, 0, 192, 100, 172, 42]
abbrev dktX8_text_3 : List UInt8 := dkwX8_text_3 ++ dktX8_text_4
def dkwX8_text_2 : List UInt8 := [167, 255, 224, 42, 180, 0, 17, 42, 180, 0, 82, 42, 180, 0, 153, 79, 42, 3, 181, 0, 153, 42, 42]
abbrev dktX8_text_2 : List UInt8 := dkwX8_text_2 ++ dktX8_text_3
def dkwX8_text_1 : List UInt8 := [180, 0, 13, 17, 0, 160, 42, 180, 0, 82, 104, 27, 96, 42, 180, 0, 20, 27, 46, 79, 132, 1, 1]
abbrev dktX8_text_1 : List UInt8 := dkwX8_text_1 ++ dktX8_text_2
def dkwX8_text_0 : List UInt8 := [42, 180, 0, 82, 16, 6, 160, 0, 6, 16, 252, 172, 3, 60, 27, 42, 180, 0, 153, 162, 0, 30, 42]
abbrev dktX8_text_0 : List UInt8 := dkwX8_text_0 ++ dktX8_text_1
theorem dksX8_text_0 : cX8_text.data.toList.drop 0 = dktX8_text_0 := by decide +kernel
theorem dksX8_text_1 : cX8_text.data.toList.drop 23 = dktX8_text_1 := dk_seg dksX8_text_0 23 rfl rfl
theorem dksX8_text_2 : cX8_text.data.toList.drop 46 = dktX8_text_2 := dk_seg dksX8_text_1 23 rfl rfl
theorem dksX8_text_3 : cX8_text.data.toList.drop 69 = dktX8_text_3 := dk_seg dksX8_text_2 23 rfl rfl
theorem dksX8_text_4 : cX8_text.data.toList.drop 93 = dktX8_text_4 := dk_seg dksX8_text_3 24 rfl rfl
theorem dX8_text_0 : decode cX8_text 0 = .ok (.aload_n 0, 1) := dk_42 (dk_at dksX8_text_0 0 rfl rfl)
theorem dX8_text_1 : decode cX8_text 1 = .ok (.getfield 82, 3) := dk_180 0 82 (dk_at dksX8_text_0 1 rfl rfl)
theorem dX8_text_4 : decode cX8_text 4 = .ok (.bipush 6, 2) := dk_16 6 (dk_at dksX8_text_0 4 rfl rfl)
theorem dX8_text_6 : decode cX8_text 6 = .ok (.if_icmp .ne 6, 3) := dk_160 0 6 (dk_at dksX8_text_0 6 rfl rfl)
theorem dX8_text_9 : decode cX8_text 9 = .ok (.bipush (-4), 2) := dk_16 252 (dk_at dksX8_text_0 9 rfl rfl)
theorem dX8_text_11 : decode cX8_text 11 = .ok (.ireturn, 1) := dk_172 (dk_at dksX8_text_0 11 rfl rfl)
theorem dX8_text_12 : decode cX8_text 12 = .ok (.iconst 0, 1) := dk_3 (dk_at dksX8_text_0 12 rfl rfl)
theorem dX8_text_13 : decode cX8_text 13 = .ok (.istore_n 1, 1) := dk_60 (dk_at dksX8_text_0 13 rfl rfl)
theorem dX8_text_14 : decode cX8_text 14 = .ok (.iload_n 1, 1) := dk_27 (dk_at dksX8_text_0 14 rfl rfl)
theorem dX8_text_15 : decode cX8_text 15 = .ok (.aload_n 0, 1) := dk_42 (dk_at dksX8_text_0 15 rfl rfl)
theorem dX8_text_16 : decode cX8_text 16 = .ok (.getfield 153, 3) := dk_180 0 153 (dk_at dksX8_text_0 16 rfl rfl)
theorem dX8_text_19 : decode cX8_text 19 = .ok (.if_icmp .ge 30, 3) := dk_162 0 30 (dk_at dksX8_text_0 19 rfl rfl)
theorem dX8_text_22 : decode cX8_text 22 = .ok (.aload_n 0, 1) := dk_42 (dk_at dksX8_text_0 22 rfl rfl)
theorem dX8_text_23 : decode cX8_text 23 = .ok (.getfield 13, 3) := dk_180 0 13 (dk_at dksX8_text_1 0 rfl rfl)
theorem dX8_text_26 : decode cX8_text 26 = .ok (.sipush 160, 3) := dk_17 0 160 (dk_at dksX8_text_1 3 rfl rfl)
theorem dX8_text_29 : decode cX8_text 29 = .ok (.aload_n 0, 1) := dk_42 (dk_at dksX8_text_1 6 rfl rfl)
theorem dX8_text_30 : decode cX8_text 30 = .ok (.getfield 82, 3) := dk_180 0 82 (dk_at dksX8_text_1 7 rfl rfl)
theorem dX8_text_33 : decode cX8_text 33 = .ok (.imul, 1) := dk_104 (dk_at dksX8_text_1 10 rfl rfl)
theorem dX8_text_34 : decode cX8_text 34 = .ok (.iload_n 1, 1) := dk_27 (dk_at dksX8_text_1 11 rfl rfl)
theorem dX8_text_35 : decode cX8_text 35 = .ok (.iadd, 1) := dk_96 (dk_at dksX8_text_1 12 rfl rfl)
theorem dX8_text_36 : decode cX8_text 36 = .ok (.aload_n 0, 1) := dk_42 (dk_at dksX8_text_1 13 rfl rfl)
theorem dX8_text_37 : decode cX8_text 37 = .ok (.getfield 20, 3) := dk_180 0 20 (dk_at dksX8_text_1 14 rfl rfl)
theorem dX8_text_40 : decode cX8_text 40 = .ok (.iload_n 1, 1) := dk_27 (dk_at dksX8_text_1 17 rfl rfl)
theorem dX8_text_41 : decode cX8_text 41 = .ok (.iaload, 1) := dk_46 (dk_at dksX8_text_1 18 rfl rfl)
theorem dX8_text_42 : decode cX8_text 42 = .ok (.iastore, 1) := dk_79 (dk_at dksX8_text_1 19 rfl rfl)
theorem dX8_text_43 : decode cX8_text 43 = .ok (.iinc 1 1, 3) := dk_132 1 1 (dk_at dksX8_text_1 20 rfl rfl)
theorem dX8_text_46 : decode cX8_text 46 = .ok (.goto (-32), 3) := dk_167 255 224 (dk_at dksX8_text_2 0 rfl rfl)
theorem dX8_text_49 : decode cX8_text 49 = .ok (.aload_n 0, 1) := dk_42 (dk_at dksX8_text_2 3 rfl rfl)
theorem dX8_text_50 : decode cX8_text 50 = .ok (.getfield 17, 3) := dk_180 0 17 (dk_at dksX8_text_2 4 rfl rfl)
theorem dX8_text_53 : decode cX8_text 53 = .ok (.aload_n 0, 1) := dk_42 (dk_at dksX8_text_2 7 rfl rfl)
theorem dX8_text_54 : decode cX8_text 54 = .ok (.getfield 82, 3) := dk_180 0 82 (dk_at dksX8_text_2 8 rfl rfl)
theorem dX8_text_57 : decode cX8_text 57 = .ok (.aload_n 0, 1) := dk_42 (dk_at dksX8_text_2 11 rfl rfl)
theorem dX8_text_58 : decode cX8_text 58 = .ok (.getfield 153, 3) := dk_180 0 153 (dk_at dksX8_text_2 12 rfl rfl)
theorem dX8_text_61 : decode cX8_text 61 = .ok (.iastore, 1) := dk_79 (dk_at dksX8_text_2 15 rfl rfl)
theorem dX8_text_62 : decode cX8_text 62 = .ok (.aload_n 0, 1) := dk_42 (dk_at dksX8_text_2 16 rfl rfl)
theorem dX8_text_63 : decode cX8_text 63 = .ok (.iconst 0, 1) := dk_3 (dk_at dksX8_text_2 17 rfl rfl)
theorem dX8_text_64 : decode cX8_text 64 = .ok (.putfield 153, 3) := dk_181 0 153 (dk_at dksX8_text_2 18 rfl rfl)
theorem dX8_text_67 : decode cX8_text 67 = .ok (.aload_n 0, 1) := dk_42 (dk_at dksX8_text_2 21 rfl rfl)
theorem dX8_text_68 : decode cX8_text 68 = .ok (.aload_n 0, 1) := dk_42 (dk_at dksX8_text_2 22 rfl rfl)
theorem dX8_text_69 : decode cX8_text 69 = .ok (.getfield 82, 3) := dk_180 0 82 (dk_at dksX8_text_3 0 rfl rfl)
theorem dX8_text_72 : decode cX8_text 72 = .ok (.iconst 0, 1) := dk_3 (dk_at dksX8_text_3 3 rfl rfl)
theorem dX8_text_73 : decode cX8_text 73 = .ok (.invokevirtual 266, 3) := dk_182 1 10 (dk_at dksX8_text_3 4 rfl rfl)
theorem dX8_text_76 : decode cX8_text 76 = .ok (.istore_n 1, 1) := dk_60 (dk_at dksX8_text_3 7 rfl rfl)
theorem dX8_text_77 : decode cX8_text 77 = .ok (.aload_n 0, 1) := dk_42 (dk_at dksX8_text_3 8 rfl rfl)
theorem dX8_text_78 : decode cX8_text 78 = .ok (.getfield 188, 3) := dk_180 0 188 (dk_at dksX8_text_3 9 rfl rfl)
theorem dX8_text_81 : decode cX8_text 81 = .ok (.ifCond .eq 11, 3) := dk_153 0 11 (dk_at dksX8_text_3 12 rfl rfl)
theorem dX8_text_84 : decode cX8_text 84 = .ok (.bipush (-100), 2) := dk_16 156 (dk_at dksX8_text_3 15 rfl rfl)
theorem dX8_text_86 : decode cX8_text 86 = .ok (.aload_n 0, 1) := dk_42 (dk_at dksX8_text_3 17 rfl rfl)
theorem dX8_text_87 : decode cX8_text 87 = .ok (.getfield 192, 3) := dk_180 0 192 (dk_at dksX8_text_3 18 rfl rfl)
theorem dX8_text_90 : decode cX8_text 90 = .ok (.isub, 1) := dk_100 (dk_at dksX8_text_3 21 rfl rfl)
theorem dX8_text_91 : decode cX8_text 91 = .ok (.ireturn, 1) := dk_172 (dk_at dksX8_text_3 22 rfl rfl)
theorem dX8_text_92 : decode cX8_text 92 = .ok (.aload_n 0, 1) := dk_42 (dk_at dksX8_text_3 23 rfl rfl)
theorem dX8_text_93 : decode cX8_text 93 = .ok (.dup, 1) := dk_89 (dk_at dksX8_text_4 0 rfl rfl)
theorem dX8_text_94 : decode cX8_text 94 = .ok (.getfield 82, 3) := dk_180 0 82 (dk_at dksX8_text_4 1 rfl rfl)
theorem dX8_text_97 : decode cX8_text 97 = .ok (.iconst 1, 1) := dk_4 (dk_at dksX8_text_4 4 rfl rfl)
theorem dX8_text_98 : decode cX8_text 98 = .ok (.iadd, 1) := dk_96 (dk_at dksX8_text_4 5 rfl rfl)
theorem dX8_text_99 : decode cX8_text 99 = .ok (.putfield 82, 3) := dk_181 0 82 (dk_at dksX8_text_4 6 rfl rfl)
theorem dX8_text_102 : decode cX8_text 102 = .ok (.aload_n 0, 1) := dk_42 (dk_at dksX8_text_4 9 rfl rfl)
theorem dX8_text_103 : decode cX8_text 103 = .ok (.getfield 82, 3) := dk_180 0 82 (dk_at dksX8_text_4 10 rfl rfl)
theorem dX8_text_106 : decode cX8_text 106 = .ok (.iconst 1, 1) := dk_4 (dk_at dksX8_text_4 13 rfl rfl)
theorem dX8_text_107 : decode cX8_text 107 = .ok (.isub, 1) := dk_100 (dk_at dksX8_text_4 14 rfl rfl)
theorem dX8_text_108 : decode cX8_text 108 = .ok (.ireturn, 1) := dk_172 (dk_at dksX8_text_4 15 rfl rfl)
abbrev cX8_force : ByteArray := prog_16_method_36_code
def yX8_force : MethodName := ⟨RX8, "force", "(I)I"⟩
def dkwX8_force_1 : List UInt8 := [42, 27, 181, 0, 119, 28, 172]
abbrev dktX8_force_1 : List UInt8 := dkwX8_force_1 ++ []
def dkwX8_force_0 : List UInt8 := [27, 133, 9, 42, 180, 0, 82, 4, 100, 133, 184, 0, 88, 154, 0, 6, 16, 254, 172, 42, 180, 0, 119, 61]
abbrev dktX8_force_0 : List UInt8 := dkwX8_force_0 ++ dktX8_force_1
theorem dksX8_force_0 : cX8_force.data.toList.drop 0 = dktX8_force_0 := by decide +kernel
theorem dksX8_force_1 : cX8_force.data.toList.drop 24 = dktX8_force_1 := dk_seg dksX8_force_0 24 rfl rfl
theorem dX8_force_0 : decode cX8_force 0 = .ok (.iload_n 1, 1) := dk_27 (dk_at dksX8_force_0 0 rfl rfl)
theorem dX8_force_1 : decode cX8_force 1 = .ok (.i2l, 1) := dk_133 (dk_at dksX8_force_0 1 rfl rfl)
theorem dX8_force_2 : decode cX8_force 2 = .ok (.lconst 0, 1) := dk_9 (dk_at dksX8_force_0 2 rfl rfl)
theorem dX8_force_3 : decode cX8_force 3 = .ok (.aload_n 0, 1) := dk_42 (dk_at dksX8_force_0 3 rfl rfl)
theorem dX8_force_4 : decode cX8_force 4 = .ok (.getfield 82, 3) := dk_180 0 82 (dk_at dksX8_force_0 4 rfl rfl)
theorem dX8_force_7 : decode cX8_force 7 = .ok (.iconst 1, 1) := dk_4 (dk_at dksX8_force_0 7 rfl rfl)
theorem dX8_force_8 : decode cX8_force 8 = .ok (.isub, 1) := dk_100 (dk_at dksX8_force_0 8 rfl rfl)
theorem dX8_force_9 : decode cX8_force 9 = .ok (.i2l, 1) := dk_133 (dk_at dksX8_force_0 9 rfl rfl)
theorem dX8_force_10 : decode cX8_force 10 = .ok (.invokestatic 88, 3) := dk_184 0 88 (dk_at dksX8_force_0 10 rfl rfl)
theorem dX8_force_13 : decode cX8_force 13 = .ok (.ifCond .ne 6, 3) := dk_154 0 6 (dk_at dksX8_force_0 13 rfl rfl)
theorem dX8_force_16 : decode cX8_force 16 = .ok (.bipush (-2), 2) := dk_16 254 (dk_at dksX8_force_0 16 rfl rfl)
theorem dX8_force_18 : decode cX8_force 18 = .ok (.ireturn, 1) := dk_172 (dk_at dksX8_force_0 18 rfl rfl)
theorem dX8_force_19 : decode cX8_force 19 = .ok (.aload_n 0, 1) := dk_42 (dk_at dksX8_force_0 19 rfl rfl)
theorem dX8_force_20 : decode cX8_force 20 = .ok (.getfield 119, 3) := dk_180 0 119 (dk_at dksX8_force_0 20 rfl rfl)
theorem dX8_force_23 : decode cX8_force 23 = .ok (.istore_n 2, 1) := dk_61 (dk_at dksX8_force_0 23 rfl rfl)
theorem dX8_force_24 : decode cX8_force 24 = .ok (.aload_n 0, 1) := dk_42 (dk_at dksX8_force_1 0 rfl rfl)
theorem dX8_force_25 : decode cX8_force 25 = .ok (.iload_n 1, 1) := dk_27 (dk_at dksX8_force_1 1 rfl rfl)
theorem dX8_force_26 : decode cX8_force 26 = .ok (.putfield 119, 3) := dk_181 0 119 (dk_at dksX8_force_1 2 rfl rfl)
theorem dX8_force_29 : decode cX8_force 29 = .ok (.iload_n 2, 1) := dk_28 (dk_at dksX8_force_1 5 rfl rfl)
theorem dX8_force_30 : decode cX8_force 30 = .ok (.ireturn, 1) := dk_172 (dk_at dksX8_force_1 6 rfl rfl)
abbrev cX8_light : ByteArray := prog_16_method_42_code
def yX8_light : MethodName := ⟨RX8, "light", "(III)I"⟩
def dkwX8_light_1 : List UInt8 := [20, 1, 21, 184, 0, 88, 153, 0, 13, 42, 27, 28, 29, 182, 1, 23, 167, 0, 5, 16, 254, 172]
abbrev dktX8_light_1 : List UInt8 := dkwX8_light_1 ++ []
def dkwX8_light_0 : List UInt8 := [42, 27, 182, 0, 98, 153, 0, 37, 28, 133, 9, 20, 0, 101, 184, 0, 88, 153, 0, 25, 29, 133, 9]
abbrev dktX8_light_0 : List UInt8 := dkwX8_light_0 ++ dktX8_light_1
theorem dksX8_light_0 : cX8_light.data.toList.drop 0 = dktX8_light_0 := by decide +kernel
theorem dksX8_light_1 : cX8_light.data.toList.drop 23 = dktX8_light_1 := dk_seg dksX8_light_0 23 rfl rfl
theorem dX8_light_0 : decode cX8_light 0 = .ok (.aload_n 0, 1) := dk_42 (dk_at dksX8_light_0 0 rfl rfl)
theorem dX8_light_1 : decode cX8_light 1 = .ok (.iload_n 1, 1) := dk_27 (dk_at dksX8_light_0 1 rfl rfl)
theorem dX8_light_2 : decode cX8_light 2 = .ok (.invokevirtual 98, 3) := dk_182 0 98 (dk_at dksX8_light_0 2 rfl rfl)
theorem dX8_light_5 : decode cX8_light 5 = .ok (.ifCond .eq 37, 3) := dk_153 0 37 (dk_at dksX8_light_0 5 rfl rfl)
theorem dX8_light_8 : decode cX8_light 8 = .ok (.iload_n 2, 1) := dk_28 (dk_at dksX8_light_0 8 rfl rfl)
theorem dX8_light_9 : decode cX8_light 9 = .ok (.i2l, 1) := dk_133 (dk_at dksX8_light_0 9 rfl rfl)
theorem dX8_light_10 : decode cX8_light 10 = .ok (.lconst 0, 1) := dk_9 (dk_at dksX8_light_0 10 rfl rfl)
theorem dX8_light_11 : decode cX8_light 11 = .ok (.ldc2_w 101, 3) := dk_20 0 101 (dk_at dksX8_light_0 11 rfl rfl)
theorem dX8_light_14 : decode cX8_light 14 = .ok (.invokestatic 88, 3) := dk_184 0 88 (dk_at dksX8_light_0 14 rfl rfl)
theorem dX8_light_17 : decode cX8_light 17 = .ok (.ifCond .eq 25, 3) := dk_153 0 25 (dk_at dksX8_light_0 17 rfl rfl)
theorem dX8_light_20 : decode cX8_light 20 = .ok (.iload_n 3, 1) := dk_29 (dk_at dksX8_light_0 20 rfl rfl)
theorem dX8_light_21 : decode cX8_light 21 = .ok (.i2l, 1) := dk_133 (dk_at dksX8_light_0 21 rfl rfl)
theorem dX8_light_22 : decode cX8_light 22 = .ok (.lconst 0, 1) := dk_9 (dk_at dksX8_light_0 22 rfl rfl)
theorem dX8_light_23 : decode cX8_light 23 = .ok (.ldc2_w 277, 3) := dk_20 1 21 (dk_at dksX8_light_1 0 rfl rfl)
theorem dX8_light_26 : decode cX8_light 26 = .ok (.invokestatic 88, 3) := dk_184 0 88 (dk_at dksX8_light_1 3 rfl rfl)
theorem dX8_light_29 : decode cX8_light 29 = .ok (.ifCond .eq 13, 3) := dk_153 0 13 (dk_at dksX8_light_1 6 rfl rfl)
theorem dX8_light_32 : decode cX8_light 32 = .ok (.aload_n 0, 1) := dk_42 (dk_at dksX8_light_1 9 rfl rfl)
theorem dX8_light_33 : decode cX8_light 33 = .ok (.iload_n 1, 1) := dk_27 (dk_at dksX8_light_1 10 rfl rfl)
theorem dX8_light_34 : decode cX8_light 34 = .ok (.iload_n 2, 1) := dk_28 (dk_at dksX8_light_1 11 rfl rfl)
theorem dX8_light_35 : decode cX8_light 35 = .ok (.iload_n 3, 1) := dk_29 (dk_at dksX8_light_1 12 rfl rfl)
theorem dX8_light_36 : decode cX8_light 36 = .ok (.invokevirtual 279, 3) := dk_182 1 23 (dk_at dksX8_light_1 13 rfl rfl)
theorem dX8_light_39 : decode cX8_light 39 = .ok (.goto 5, 3) := dk_167 0 5 (dk_at dksX8_light_1 16 rfl rfl)
theorem dX8_light_42 : decode cX8_light 42 = .ok (.bipush (-2), 2) := dk_16 254 (dk_at dksX8_light_1 19 rfl rfl)
theorem dX8_light_44 : decode cX8_light 44 = .ok (.ireturn, 1) := dk_172 (dk_at dksX8_light_1 21 rfl rfl)
abbrev cX8_house : ByteArray := prog_16_method_49_code
def yX8_house : MethodName := ⟨RX8, "house", "(I)I"⟩
def dkwX8_house_8 : List UInt8 := [167, 0, 8, 3, 167, 0, 4, 29, 172]
abbrev dktX8_house_8 : List UInt8 := dkwX8_house_8 ++ []
def dkwX8_house_7 : List UInt8 := [167, 255, 163, 27, 4, 160, 0, 7, 28, 167, 0, 22, 27, 6, 160, 0, 16, 21, 4, 153, 0, 7, 4]
abbrev dktX8_house_7 : List UInt8 := dkwX8_house_7 ++ dktX8_house_8
def dkwX8_house_6 : List UInt8 := [182, 0, 139, 42, 180, 0, 26, 21, 5, 46, 161, 0, 7, 4, 167, 0, 4, 3, 54, 4, 132, 5, 1]
abbrev dktX8_house_6 : List UInt8 := dkwX8_house_6 ++ dktX8_house_7
def dkwX8_house_5 : List UInt8 := [153, 0, 12, 42, 21, 5, 182, 0, 134, 167, 0, 4, 3, 128, 62, 21, 4, 153, 0, 23, 42, 21, 5]
abbrev dktX8_house_5 : List UInt8 := dkwX8_house_5 ++ dktX8_house_6
def dkwX8_house_4 : List UInt8 := [180, 0, 29, 21, 5, 46, 182, 0, 145, 96, 61, 29, 42, 42, 180, 0, 29, 21, 5, 46, 182, 0, 131]
abbrev dktX8_house_4 : List UInt8 := dkwX8_house_4 ++ dktX8_house_5
def dkwX8_house_3 : List UInt8 := [7, 162, 0, 93, 28, 42, 180, 0, 29, 21, 5, 46, 2, 160, 0, 7, 3, 167, 0, 14, 42, 42]
abbrev dktX8_house_3 : List UInt8 := dkwX8_house_3 ++ dktX8_house_4
def dkwX8_house_2 : List UInt8 := [182, 1, 36, 154, 0, 7, 4, 167, 0, 4, 3, 172, 3, 61, 3, 62, 4, 54, 4, 3, 54, 5, 21, 5]
abbrev dktX8_house_2 : List UInt8 := dkwX8_house_2 ++ dktX8_house_3
def dkwX8_house_1 : List UInt8 := [27, 5, 159, 0, 8, 27, 8, 160, 0, 28, 27, 8, 160, 0, 10, 42, 182, 1, 36, 167, 0, 15, 42]
abbrev dktX8_house_1 : List UInt8 := dkwX8_house_1 ++ dktX8_house_2
def dkwX8_house_0 : List UInt8 := [27, 133, 9, 20, 0, 122, 184, 0, 88, 154, 0, 6, 16, 254, 172, 27, 154, 0, 8, 42, 182, 1, 33, 172]
abbrev dktX8_house_0 : List UInt8 := dkwX8_house_0 ++ dktX8_house_1
theorem dksX8_house_0 : cX8_house.data.toList.drop 0 = dktX8_house_0 := by decide +kernel
theorem dksX8_house_1 : cX8_house.data.toList.drop 24 = dktX8_house_1 := dk_seg dksX8_house_0 24 rfl rfl
theorem dksX8_house_2 : cX8_house.data.toList.drop 47 = dktX8_house_2 := dk_seg dksX8_house_1 23 rfl rfl
theorem dksX8_house_3 : cX8_house.data.toList.drop 71 = dktX8_house_3 := dk_seg dksX8_house_2 24 rfl rfl
theorem dksX8_house_4 : cX8_house.data.toList.drop 93 = dktX8_house_4 := dk_seg dksX8_house_3 22 rfl rfl
theorem dksX8_house_5 : cX8_house.data.toList.drop 116 = dktX8_house_5 := dk_seg dksX8_house_4 23 rfl rfl
theorem dksX8_house_6 : cX8_house.data.toList.drop 139 = dktX8_house_6 := dk_seg dksX8_house_5 23 rfl rfl
theorem dksX8_house_7 : cX8_house.data.toList.drop 162 = dktX8_house_7 := dk_seg dksX8_house_6 23 rfl rfl
theorem dksX8_house_8 : cX8_house.data.toList.drop 185 = dktX8_house_8 := dk_seg dksX8_house_7 23 rfl rfl
theorem dX8_house_0 : decode cX8_house 0 = .ok (.iload_n 1, 1) := dk_27 (dk_at dksX8_house_0 0 rfl rfl)
theorem dX8_house_1 : decode cX8_house 1 = .ok (.i2l, 1) := dk_133 (dk_at dksX8_house_0 1 rfl rfl)
theorem dX8_house_2 : decode cX8_house 2 = .ok (.lconst 0, 1) := dk_9 (dk_at dksX8_house_0 2 rfl rfl)
theorem dX8_house_3 : decode cX8_house 3 = .ok (.ldc2_w 122, 3) := dk_20 0 122 (dk_at dksX8_house_0 3 rfl rfl)
theorem dX8_house_6 : decode cX8_house 6 = .ok (.invokestatic 88, 3) := dk_184 0 88 (dk_at dksX8_house_0 6 rfl rfl)
theorem dX8_house_9 : decode cX8_house 9 = .ok (.ifCond .ne 6, 3) := dk_154 0 6 (dk_at dksX8_house_0 9 rfl rfl)
theorem dX8_house_12 : decode cX8_house 12 = .ok (.bipush (-2), 2) := dk_16 254 (dk_at dksX8_house_0 12 rfl rfl)
theorem dX8_house_14 : decode cX8_house 14 = .ok (.ireturn, 1) := dk_172 (dk_at dksX8_house_0 14 rfl rfl)
theorem dX8_house_15 : decode cX8_house 15 = .ok (.iload_n 1, 1) := dk_27 (dk_at dksX8_house_0 15 rfl rfl)
theorem dX8_house_16 : decode cX8_house 16 = .ok (.ifCond .ne 8, 3) := dk_154 0 8 (dk_at dksX8_house_0 16 rfl rfl)
theorem dX8_house_19 : decode cX8_house 19 = .ok (.aload_n 0, 1) := dk_42 (dk_at dksX8_house_0 19 rfl rfl)
theorem dX8_house_20 : decode cX8_house 20 = .ok (.invokevirtual 289, 3) := dk_182 1 33 (dk_at dksX8_house_0 20 rfl rfl)
theorem dX8_house_23 : decode cX8_house 23 = .ok (.ireturn, 1) := dk_172 (dk_at dksX8_house_0 23 rfl rfl)
theorem dX8_house_24 : decode cX8_house 24 = .ok (.iload_n 1, 1) := dk_27 (dk_at dksX8_house_1 0 rfl rfl)
theorem dX8_house_25 : decode cX8_house 25 = .ok (.iconst 2, 1) := dk_5 (dk_at dksX8_house_1 1 rfl rfl)
theorem dX8_house_26 : decode cX8_house 26 = .ok (.if_icmp .eq 8, 3) := dk_159 0 8 (dk_at dksX8_house_1 2 rfl rfl)
theorem dX8_house_29 : decode cX8_house 29 = .ok (.iload_n 1, 1) := dk_27 (dk_at dksX8_house_1 5 rfl rfl)
theorem dX8_house_30 : decode cX8_house 30 = .ok (.iconst 5, 1) := dk_8 (dk_at dksX8_house_1 6 rfl rfl)
theorem dX8_house_31 : decode cX8_house 31 = .ok (.if_icmp .ne 28, 3) := dk_160 0 28 (dk_at dksX8_house_1 7 rfl rfl)
theorem dX8_house_34 : decode cX8_house 34 = .ok (.iload_n 1, 1) := dk_27 (dk_at dksX8_house_1 10 rfl rfl)
theorem dX8_house_35 : decode cX8_house 35 = .ok (.iconst 5, 1) := dk_8 (dk_at dksX8_house_1 11 rfl rfl)
theorem dX8_house_36 : decode cX8_house 36 = .ok (.if_icmp .ne 10, 3) := dk_160 0 10 (dk_at dksX8_house_1 12 rfl rfl)
theorem dX8_house_39 : decode cX8_house 39 = .ok (.aload_n 0, 1) := dk_42 (dk_at dksX8_house_1 15 rfl rfl)
theorem dX8_house_40 : decode cX8_house 40 = .ok (.invokevirtual 292, 3) := dk_182 1 36 (dk_at dksX8_house_1 16 rfl rfl)
theorem dX8_house_43 : decode cX8_house 43 = .ok (.goto 15, 3) := dk_167 0 15 (dk_at dksX8_house_1 19 rfl rfl)
theorem dX8_house_46 : decode cX8_house 46 = .ok (.aload_n 0, 1) := dk_42 (dk_at dksX8_house_1 22 rfl rfl)
theorem dX8_house_47 : decode cX8_house 47 = .ok (.invokevirtual 292, 3) := dk_182 1 36 (dk_at dksX8_house_2 0 rfl rfl)
theorem dX8_house_50 : decode cX8_house 50 = .ok (.ifCond .ne 7, 3) := dk_154 0 7 (dk_at dksX8_house_2 3 rfl rfl)
theorem dX8_house_53 : decode cX8_house 53 = .ok (.iconst 1, 1) := dk_4 (dk_at dksX8_house_2 6 rfl rfl)
theorem dX8_house_54 : decode cX8_house 54 = .ok (.goto 4, 3) := dk_167 0 4 (dk_at dksX8_house_2 7 rfl rfl)
theorem dX8_house_57 : decode cX8_house 57 = .ok (.iconst 0, 1) := dk_3 (dk_at dksX8_house_2 10 rfl rfl)
theorem dX8_house_58 : decode cX8_house 58 = .ok (.ireturn, 1) := dk_172 (dk_at dksX8_house_2 11 rfl rfl)
theorem dX8_house_59 : decode cX8_house 59 = .ok (.iconst 0, 1) := dk_3 (dk_at dksX8_house_2 12 rfl rfl)
theorem dX8_house_60 : decode cX8_house 60 = .ok (.istore_n 2, 1) := dk_61 (dk_at dksX8_house_2 13 rfl rfl)
theorem dX8_house_61 : decode cX8_house 61 = .ok (.iconst 0, 1) := dk_3 (dk_at dksX8_house_2 14 rfl rfl)
theorem dX8_house_62 : decode cX8_house 62 = .ok (.istore_n 3, 1) := dk_62 (dk_at dksX8_house_2 15 rfl rfl)
theorem dX8_house_63 : decode cX8_house 63 = .ok (.iconst 1, 1) := dk_4 (dk_at dksX8_house_2 16 rfl rfl)
theorem dX8_house_64 : decode cX8_house 64 = .ok (.istore 4, 2) := dk_54 4 (dk_at dksX8_house_2 17 rfl rfl)
theorem dX8_house_66 : decode cX8_house 66 = .ok (.iconst 0, 1) := dk_3 (dk_at dksX8_house_2 19 rfl rfl)
theorem dX8_house_67 : decode cX8_house 67 = .ok (.istore 5, 2) := dk_54 5 (dk_at dksX8_house_2 20 rfl rfl)
theorem dX8_house_69 : decode cX8_house 69 = .ok (.iload 5, 2) := dk_21 5 (dk_at dksX8_house_2 22 rfl rfl)
theorem dX8_house_71 : decode cX8_house 71 = .ok (.iconst 4, 1) := dk_7 (dk_at dksX8_house_3 0 rfl rfl)
theorem dX8_house_72 : decode cX8_house 72 = .ok (.if_icmp .ge 93, 3) := dk_162 0 93 (dk_at dksX8_house_3 1 rfl rfl)
theorem dX8_house_75 : decode cX8_house 75 = .ok (.iload_n 2, 1) := dk_28 (dk_at dksX8_house_3 4 rfl rfl)
theorem dX8_house_76 : decode cX8_house 76 = .ok (.aload_n 0, 1) := dk_42 (dk_at dksX8_house_3 5 rfl rfl)
theorem dX8_house_77 : decode cX8_house 77 = .ok (.getfield 29, 3) := dk_180 0 29 (dk_at dksX8_house_3 6 rfl rfl)
theorem dX8_house_80 : decode cX8_house 80 = .ok (.iload 5, 2) := dk_21 5 (dk_at dksX8_house_3 9 rfl rfl)
theorem dX8_house_82 : decode cX8_house 82 = .ok (.iaload, 1) := dk_46 (dk_at dksX8_house_3 11 rfl rfl)
theorem dX8_house_83 : decode cX8_house 83 = .ok (.iconst (-1), 1) := dk_2 (dk_at dksX8_house_3 12 rfl rfl)
theorem dX8_house_84 : decode cX8_house 84 = .ok (.if_icmp .ne 7, 3) := dk_160 0 7 (dk_at dksX8_house_3 13 rfl rfl)
theorem dX8_house_87 : decode cX8_house 87 = .ok (.iconst 0, 1) := dk_3 (dk_at dksX8_house_3 16 rfl rfl)
theorem dX8_house_88 : decode cX8_house 88 = .ok (.goto 14, 3) := dk_167 0 14 (dk_at dksX8_house_3 17 rfl rfl)
theorem dX8_house_91 : decode cX8_house 91 = .ok (.aload_n 0, 1) := dk_42 (dk_at dksX8_house_3 20 rfl rfl)
theorem dX8_house_92 : decode cX8_house 92 = .ok (.aload_n 0, 1) := dk_42 (dk_at dksX8_house_3 21 rfl rfl)
theorem dX8_house_93 : decode cX8_house 93 = .ok (.getfield 29, 3) := dk_180 0 29 (dk_at dksX8_house_4 0 rfl rfl)
theorem dX8_house_96 : decode cX8_house 96 = .ok (.iload 5, 2) := dk_21 5 (dk_at dksX8_house_4 3 rfl rfl)
theorem dX8_house_98 : decode cX8_house 98 = .ok (.iaload, 1) := dk_46 (dk_at dksX8_house_4 5 rfl rfl)
theorem dX8_house_99 : decode cX8_house 99 = .ok (.invokevirtual 145, 3) := dk_182 0 145 (dk_at dksX8_house_4 6 rfl rfl)
theorem dX8_house_102 : decode cX8_house 102 = .ok (.iadd, 1) := dk_96 (dk_at dksX8_house_4 9 rfl rfl)
theorem dX8_house_103 : decode cX8_house 103 = .ok (.istore_n 2, 1) := dk_61 (dk_at dksX8_house_4 10 rfl rfl)
theorem dX8_house_104 : decode cX8_house 104 = .ok (.iload_n 3, 1) := dk_29 (dk_at dksX8_house_4 11 rfl rfl)
theorem dX8_house_105 : decode cX8_house 105 = .ok (.aload_n 0, 1) := dk_42 (dk_at dksX8_house_4 12 rfl rfl)
theorem dX8_house_106 : decode cX8_house 106 = .ok (.aload_n 0, 1) := dk_42 (dk_at dksX8_house_4 13 rfl rfl)
theorem dX8_house_107 : decode cX8_house 107 = .ok (.getfield 29, 3) := dk_180 0 29 (dk_at dksX8_house_4 14 rfl rfl)
theorem dX8_house_110 : decode cX8_house 110 = .ok (.iload 5, 2) := dk_21 5 (dk_at dksX8_house_4 17 rfl rfl)
theorem dX8_house_112 : decode cX8_house 112 = .ok (.iaload, 1) := dk_46 (dk_at dksX8_house_4 19 rfl rfl)
theorem dX8_house_113 : decode cX8_house 113 = .ok (.invokevirtual 131, 3) := dk_182 0 131 (dk_at dksX8_house_4 20 rfl rfl)
theorem dX8_house_116 : decode cX8_house 116 = .ok (.ifCond .eq 12, 3) := dk_153 0 12 (dk_at dksX8_house_5 0 rfl rfl)
theorem dX8_house_119 : decode cX8_house 119 = .ok (.aload_n 0, 1) := dk_42 (dk_at dksX8_house_5 3 rfl rfl)
theorem dX8_house_120 : decode cX8_house 120 = .ok (.iload 5, 2) := dk_21 5 (dk_at dksX8_house_5 4 rfl rfl)
theorem dX8_house_122 : decode cX8_house 122 = .ok (.invokevirtual 134, 3) := dk_182 0 134 (dk_at dksX8_house_5 6 rfl rfl)
theorem dX8_house_125 : decode cX8_house 125 = .ok (.goto 4, 3) := dk_167 0 4 (dk_at dksX8_house_5 9 rfl rfl)
theorem dX8_house_128 : decode cX8_house 128 = .ok (.iconst 0, 1) := dk_3 (dk_at dksX8_house_5 12 rfl rfl)
theorem dX8_house_129 : decode cX8_house 129 = .ok (.ior, 1) := dk_128 (dk_at dksX8_house_5 13 rfl rfl)
theorem dX8_house_130 : decode cX8_house 130 = .ok (.istore_n 3, 1) := dk_62 (dk_at dksX8_house_5 14 rfl rfl)
theorem dX8_house_131 : decode cX8_house 131 = .ok (.iload 4, 2) := dk_21 4 (dk_at dksX8_house_5 15 rfl rfl)
theorem dX8_house_133 : decode cX8_house 133 = .ok (.ifCond .eq 23, 3) := dk_153 0 23 (dk_at dksX8_house_5 17 rfl rfl)
theorem dX8_house_136 : decode cX8_house 136 = .ok (.aload_n 0, 1) := dk_42 (dk_at dksX8_house_5 20 rfl rfl)
theorem dX8_house_137 : decode cX8_house 137 = .ok (.iload 5, 2) := dk_21 5 (dk_at dksX8_house_5 21 rfl rfl)
theorem dX8_house_139 : decode cX8_house 139 = .ok (.invokevirtual 139, 3) := dk_182 0 139 (dk_at dksX8_house_6 0 rfl rfl)
theorem dX8_house_142 : decode cX8_house 142 = .ok (.aload_n 0, 1) := dk_42 (dk_at dksX8_house_6 3 rfl rfl)
theorem dX8_house_143 : decode cX8_house 143 = .ok (.getfield 26, 3) := dk_180 0 26 (dk_at dksX8_house_6 4 rfl rfl)
theorem dX8_house_146 : decode cX8_house 146 = .ok (.iload 5, 2) := dk_21 5 (dk_at dksX8_house_6 7 rfl rfl)
theorem dX8_house_148 : decode cX8_house 148 = .ok (.iaload, 1) := dk_46 (dk_at dksX8_house_6 9 rfl rfl)
theorem dX8_house_149 : decode cX8_house 149 = .ok (.if_icmp .lt 7, 3) := dk_161 0 7 (dk_at dksX8_house_6 10 rfl rfl)
theorem dX8_house_152 : decode cX8_house 152 = .ok (.iconst 1, 1) := dk_4 (dk_at dksX8_house_6 13 rfl rfl)
theorem dX8_house_153 : decode cX8_house 153 = .ok (.goto 4, 3) := dk_167 0 4 (dk_at dksX8_house_6 14 rfl rfl)
theorem dX8_house_156 : decode cX8_house 156 = .ok (.iconst 0, 1) := dk_3 (dk_at dksX8_house_6 17 rfl rfl)
theorem dX8_house_157 : decode cX8_house 157 = .ok (.istore 4, 2) := dk_54 4 (dk_at dksX8_house_6 18 rfl rfl)
theorem dX8_house_159 : decode cX8_house 159 = .ok (.iinc 5 1, 3) := dk_132 5 1 (dk_at dksX8_house_6 20 rfl rfl)
theorem dX8_house_162 : decode cX8_house 162 = .ok (.goto (-93), 3) := dk_167 255 163 (dk_at dksX8_house_7 0 rfl rfl)
theorem dX8_house_165 : decode cX8_house 165 = .ok (.iload_n 1, 1) := dk_27 (dk_at dksX8_house_7 3 rfl rfl)
theorem dX8_house_166 : decode cX8_house 166 = .ok (.iconst 1, 1) := dk_4 (dk_at dksX8_house_7 4 rfl rfl)
theorem dX8_house_167 : decode cX8_house 167 = .ok (.if_icmp .ne 7, 3) := dk_160 0 7 (dk_at dksX8_house_7 5 rfl rfl)
theorem dX8_house_170 : decode cX8_house 170 = .ok (.iload_n 2, 1) := dk_28 (dk_at dksX8_house_7 8 rfl rfl)
theorem dX8_house_171 : decode cX8_house 171 = .ok (.goto 22, 3) := dk_167 0 22 (dk_at dksX8_house_7 9 rfl rfl)
theorem dX8_house_174 : decode cX8_house 174 = .ok (.iload_n 1, 1) := dk_27 (dk_at dksX8_house_7 12 rfl rfl)
theorem dX8_house_175 : decode cX8_house 175 = .ok (.iconst 3, 1) := dk_6 (dk_at dksX8_house_7 13 rfl rfl)
theorem dX8_house_176 : decode cX8_house 176 = .ok (.if_icmp .ne 16, 3) := dk_160 0 16 (dk_at dksX8_house_7 14 rfl rfl)
theorem dX8_house_179 : decode cX8_house 179 = .ok (.iload 4, 2) := dk_21 4 (dk_at dksX8_house_7 17 rfl rfl)
theorem dX8_house_181 : decode cX8_house 181 = .ok (.ifCond .eq 7, 3) := dk_153 0 7 (dk_at dksX8_house_7 19 rfl rfl)
theorem dX8_house_184 : decode cX8_house 184 = .ok (.iconst 1, 1) := dk_4 (dk_at dksX8_house_7 22 rfl rfl)
theorem dX8_house_185 : decode cX8_house 185 = .ok (.goto 8, 3) := dk_167 0 8 (dk_at dksX8_house_8 0 rfl rfl)
theorem dX8_house_188 : decode cX8_house 188 = .ok (.iconst 0, 1) := dk_3 (dk_at dksX8_house_8 3 rfl rfl)
theorem dX8_house_189 : decode cX8_house 189 = .ok (.goto 4, 3) := dk_167 0 4 (dk_at dksX8_house_8 4 rfl rfl)
theorem dX8_house_192 : decode cX8_house 192 = .ok (.iload_n 3, 1) := dk_29 (dk_at dksX8_house_8 7 rfl rfl)
theorem dX8_house_193 : decode cX8_house 193 = .ok (.ireturn, 1) := dk_172 (dk_at dksX8_house_8 8 rfl rfl)
abbrev cX8_brightNow : ByteArray := prog_16_method_46_code
def yX8_brightNow : MethodName := ⟨RX8, "brightNow", "()I"⟩
def dkwX8_brightNow_1 : List UInt8 := [172]
abbrev dktX8_brightNow_1 : List UInt8 := dkwX8_brightNow_1 ++ []
def dkwX8_brightNow_0 : List UInt8 := [3, 60, 3, 61, 28, 7, 162, 0, 17, 27, 42, 28, 182, 0, 139, 96, 60, 132, 2, 1, 167, 255, 240, 27]
abbrev dktX8_brightNow_0 : List UInt8 := dkwX8_brightNow_0 ++ dktX8_brightNow_1
theorem dksX8_brightNow_0 : cX8_brightNow.data.toList.drop 0 = dktX8_brightNow_0 := by decide +kernel
theorem dksX8_brightNow_1 : cX8_brightNow.data.toList.drop 24 = dktX8_brightNow_1 := dk_seg dksX8_brightNow_0 24 rfl rfl
theorem dX8_brightNow_0 : decode cX8_brightNow 0 = .ok (.iconst 0, 1) := dk_3 (dk_at dksX8_brightNow_0 0 rfl rfl)
theorem dX8_brightNow_1 : decode cX8_brightNow 1 = .ok (.istore_n 1, 1) := dk_60 (dk_at dksX8_brightNow_0 1 rfl rfl)
theorem dX8_brightNow_2 : decode cX8_brightNow 2 = .ok (.iconst 0, 1) := dk_3 (dk_at dksX8_brightNow_0 2 rfl rfl)
theorem dX8_brightNow_3 : decode cX8_brightNow 3 = .ok (.istore_n 2, 1) := dk_61 (dk_at dksX8_brightNow_0 3 rfl rfl)
theorem dX8_brightNow_4 : decode cX8_brightNow 4 = .ok (.iload_n 2, 1) := dk_28 (dk_at dksX8_brightNow_0 4 rfl rfl)
theorem dX8_brightNow_5 : decode cX8_brightNow 5 = .ok (.iconst 4, 1) := dk_7 (dk_at dksX8_brightNow_0 5 rfl rfl)
theorem dX8_brightNow_6 : decode cX8_brightNow 6 = .ok (.if_icmp .ge 17, 3) := dk_162 0 17 (dk_at dksX8_brightNow_0 6 rfl rfl)
theorem dX8_brightNow_9 : decode cX8_brightNow 9 = .ok (.iload_n 1, 1) := dk_27 (dk_at dksX8_brightNow_0 9 rfl rfl)
theorem dX8_brightNow_10 : decode cX8_brightNow 10 = .ok (.aload_n 0, 1) := dk_42 (dk_at dksX8_brightNow_0 10 rfl rfl)
theorem dX8_brightNow_11 : decode cX8_brightNow 11 = .ok (.iload_n 2, 1) := dk_28 (dk_at dksX8_brightNow_0 11 rfl rfl)
theorem dX8_brightNow_12 : decode cX8_brightNow 12 = .ok (.invokevirtual 139, 3) := dk_182 0 139 (dk_at dksX8_brightNow_0 12 rfl rfl)
theorem dX8_brightNow_15 : decode cX8_brightNow 15 = .ok (.iadd, 1) := dk_96 (dk_at dksX8_brightNow_0 15 rfl rfl)
theorem dX8_brightNow_16 : decode cX8_brightNow 16 = .ok (.istore_n 1, 1) := dk_60 (dk_at dksX8_brightNow_0 16 rfl rfl)
theorem dX8_brightNow_17 : decode cX8_brightNow 17 = .ok (.iinc 2 1, 3) := dk_132 2 1 (dk_at dksX8_brightNow_0 17 rfl rfl)
theorem dX8_brightNow_20 : decode cX8_brightNow 20 = .ok (.goto (-16), 3) := dk_167 255 240 (dk_at dksX8_brightNow_0 20 rfl rfl)
theorem dX8_brightNow_23 : decode cX8_brightNow 23 = .ok (.iload_n 1, 1) := dk_27 (dk_at dksX8_brightNow_0 23 rfl rfl)
theorem dX8_brightNow_24 : decode cX8_brightNow 24 = .ok (.ireturn, 1) := dk_172 (dk_at dksX8_brightNow_1 0 rfl rfl)
abbrev cX8_quarrelSet : ByteArray := prog_16_method_47_code
def yX8_quarrelSet : MethodName := ⟨RX8, "quarrelSet", "()I"⟩
def dkwX8_quarrelSet_2 : List UInt8 := [167, 255, 214, 27, 172]
abbrev dktX8_quarrelSet_2 : List UInt8 := dkwX8_quarrelSet_2 ++ []
def dkwX8_quarrelSet_1 : List UInt8 := [4, 96, 46, 28, 182, 1, 29, 153, 0, 7, 4, 167, 0, 4, 3, 28, 120, 128, 60, 132, 2, 1]
abbrev dktX8_quarrelSet_1 : List UInt8 := dkwX8_quarrelSet_1 ++ dktX8_quarrelSet_2
def dkwX8_quarrelSet_0 : List UInt8 := [3, 60, 3, 61, 28, 4, 96, 7, 162, 0, 41, 27, 42, 42, 180, 0, 29, 28, 46, 42, 180, 0, 29, 28]
abbrev dktX8_quarrelSet_0 : List UInt8 := dkwX8_quarrelSet_0 ++ dktX8_quarrelSet_1
theorem dksX8_quarrelSet_0 : cX8_quarrelSet.data.toList.drop 0 = dktX8_quarrelSet_0 := by decide +kernel
theorem dksX8_quarrelSet_1 : cX8_quarrelSet.data.toList.drop 24 = dktX8_quarrelSet_1 := dk_seg dksX8_quarrelSet_0 24 rfl rfl
theorem dksX8_quarrelSet_2 : cX8_quarrelSet.data.toList.drop 46 = dktX8_quarrelSet_2 := dk_seg dksX8_quarrelSet_1 22 rfl rfl
theorem dX8_quarrelSet_0 : decode cX8_quarrelSet 0 = .ok (.iconst 0, 1) := dk_3 (dk_at dksX8_quarrelSet_0 0 rfl rfl)
theorem dX8_quarrelSet_1 : decode cX8_quarrelSet 1 = .ok (.istore_n 1, 1) := dk_60 (dk_at dksX8_quarrelSet_0 1 rfl rfl)
theorem dX8_quarrelSet_2 : decode cX8_quarrelSet 2 = .ok (.iconst 0, 1) := dk_3 (dk_at dksX8_quarrelSet_0 2 rfl rfl)
theorem dX8_quarrelSet_3 : decode cX8_quarrelSet 3 = .ok (.istore_n 2, 1) := dk_61 (dk_at dksX8_quarrelSet_0 3 rfl rfl)
theorem dX8_quarrelSet_4 : decode cX8_quarrelSet 4 = .ok (.iload_n 2, 1) := dk_28 (dk_at dksX8_quarrelSet_0 4 rfl rfl)
theorem dX8_quarrelSet_5 : decode cX8_quarrelSet 5 = .ok (.iconst 1, 1) := dk_4 (dk_at dksX8_quarrelSet_0 5 rfl rfl)
theorem dX8_quarrelSet_6 : decode cX8_quarrelSet 6 = .ok (.iadd, 1) := dk_96 (dk_at dksX8_quarrelSet_0 6 rfl rfl)
theorem dX8_quarrelSet_7 : decode cX8_quarrelSet 7 = .ok (.iconst 4, 1) := dk_7 (dk_at dksX8_quarrelSet_0 7 rfl rfl)
theorem dX8_quarrelSet_8 : decode cX8_quarrelSet 8 = .ok (.if_icmp .ge 41, 3) := dk_162 0 41 (dk_at dksX8_quarrelSet_0 8 rfl rfl)
theorem dX8_quarrelSet_11 : decode cX8_quarrelSet 11 = .ok (.iload_n 1, 1) := dk_27 (dk_at dksX8_quarrelSet_0 11 rfl rfl)
theorem dX8_quarrelSet_12 : decode cX8_quarrelSet 12 = .ok (.aload_n 0, 1) := dk_42 (dk_at dksX8_quarrelSet_0 12 rfl rfl)
theorem dX8_quarrelSet_13 : decode cX8_quarrelSet 13 = .ok (.aload_n 0, 1) := dk_42 (dk_at dksX8_quarrelSet_0 13 rfl rfl)
theorem dX8_quarrelSet_14 : decode cX8_quarrelSet 14 = .ok (.getfield 29, 3) := dk_180 0 29 (dk_at dksX8_quarrelSet_0 14 rfl rfl)
theorem dX8_quarrelSet_17 : decode cX8_quarrelSet 17 = .ok (.iload_n 2, 1) := dk_28 (dk_at dksX8_quarrelSet_0 17 rfl rfl)
theorem dX8_quarrelSet_18 : decode cX8_quarrelSet 18 = .ok (.iaload, 1) := dk_46 (dk_at dksX8_quarrelSet_0 18 rfl rfl)
theorem dX8_quarrelSet_19 : decode cX8_quarrelSet 19 = .ok (.aload_n 0, 1) := dk_42 (dk_at dksX8_quarrelSet_0 19 rfl rfl)
theorem dX8_quarrelSet_20 : decode cX8_quarrelSet 20 = .ok (.getfield 29, 3) := dk_180 0 29 (dk_at dksX8_quarrelSet_0 20 rfl rfl)
theorem dX8_quarrelSet_23 : decode cX8_quarrelSet 23 = .ok (.iload_n 2, 1) := dk_28 (dk_at dksX8_quarrelSet_0 23 rfl rfl)
theorem dX8_quarrelSet_24 : decode cX8_quarrelSet 24 = .ok (.iconst 1, 1) := dk_4 (dk_at dksX8_quarrelSet_1 0 rfl rfl)
theorem dX8_quarrelSet_25 : decode cX8_quarrelSet 25 = .ok (.iadd, 1) := dk_96 (dk_at dksX8_quarrelSet_1 1 rfl rfl)
theorem dX8_quarrelSet_26 : decode cX8_quarrelSet 26 = .ok (.iaload, 1) := dk_46 (dk_at dksX8_quarrelSet_1 2 rfl rfl)
theorem dX8_quarrelSet_27 : decode cX8_quarrelSet 27 = .ok (.iload_n 2, 1) := dk_28 (dk_at dksX8_quarrelSet_1 3 rfl rfl)
theorem dX8_quarrelSet_28 : decode cX8_quarrelSet 28 = .ok (.invokevirtual 285, 3) := dk_182 1 29 (dk_at dksX8_quarrelSet_1 4 rfl rfl)
theorem dX8_quarrelSet_31 : decode cX8_quarrelSet 31 = .ok (.ifCond .eq 7, 3) := dk_153 0 7 (dk_at dksX8_quarrelSet_1 7 rfl rfl)
theorem dX8_quarrelSet_34 : decode cX8_quarrelSet 34 = .ok (.iconst 1, 1) := dk_4 (dk_at dksX8_quarrelSet_1 10 rfl rfl)
theorem dX8_quarrelSet_35 : decode cX8_quarrelSet 35 = .ok (.goto 4, 3) := dk_167 0 4 (dk_at dksX8_quarrelSet_1 11 rfl rfl)
theorem dX8_quarrelSet_38 : decode cX8_quarrelSet 38 = .ok (.iconst 0, 1) := dk_3 (dk_at dksX8_quarrelSet_1 14 rfl rfl)
theorem dX8_quarrelSet_39 : decode cX8_quarrelSet 39 = .ok (.iload_n 2, 1) := dk_28 (dk_at dksX8_quarrelSet_1 15 rfl rfl)
theorem dX8_quarrelSet_40 : decode cX8_quarrelSet 40 = .ok (.ishl, 1) := dk_120 (dk_at dksX8_quarrelSet_1 16 rfl rfl)
theorem dX8_quarrelSet_41 : decode cX8_quarrelSet 41 = .ok (.ior, 1) := dk_128 (dk_at dksX8_quarrelSet_1 17 rfl rfl)
theorem dX8_quarrelSet_42 : decode cX8_quarrelSet 42 = .ok (.istore_n 1, 1) := dk_60 (dk_at dksX8_quarrelSet_1 18 rfl rfl)
theorem dX8_quarrelSet_43 : decode cX8_quarrelSet 43 = .ok (.iinc 2 1, 3) := dk_132 2 1 (dk_at dksX8_quarrelSet_1 19 rfl rfl)
theorem dX8_quarrelSet_46 : decode cX8_quarrelSet 46 = .ok (.goto (-42), 3) := dk_167 255 214 (dk_at dksX8_quarrelSet_2 0 rfl rfl)
theorem dX8_quarrelSet_49 : decode cX8_quarrelSet 49 = .ok (.iload_n 1, 1) := dk_27 (dk_at dksX8_quarrelSet_2 3 rfl rfl)
theorem dX8_quarrelSet_50 : decode cX8_quarrelSet 50 = .ok (.ireturn, 1) := dk_172 (dk_at dksX8_quarrelSet_2 4 rfl rfl)
abbrev cX8_quarrels : ByteArray := prog_16_method_45_code
def yX8_quarrels : MethodName := ⟨RX8, "quarrels", "(III)Z"⟩
def dkwX8_quarrels_3 : List UInt8 := [182, 1, 17, 153, 0, 7, 4, 167, 0, 4, 3, 172]
abbrev dktX8_quarrels_3 : List UInt8 := dkwX8_quarrels_3 ++ []
def dkwX8_quarrels_2 : List UInt8 := [46, 100, 54, 4, 42, 5, 27, 29, 7, 21, 4, 156, 0, 9, 21, 4, 116, 167, 0, 5, 21, 4]
abbrev dktX8_quarrels_2 : List UInt8 := dkwX8_quarrels_2 ++ dktX8_quarrels_3
def dkwX8_quarrels_1 : List UInt8 := [153, 0, 5, 3, 172, 42, 180, 0, 35, 6, 27, 104, 4, 96, 46, 42, 180, 0, 35, 6, 28, 104, 4, 96]
abbrev dktX8_quarrels_1 : List UInt8 := dkwX8_quarrels_1 ++ dktX8_quarrels_2
def dkwX8_quarrels_0 : List UInt8 := [27, 2, 159, 0, 24, 28, 2, 159, 0, 19, 42, 27, 182, 0, 131, 154, 0, 11, 42, 28, 182, 0, 131]
abbrev dktX8_quarrels_0 : List UInt8 := dkwX8_quarrels_0 ++ dktX8_quarrels_1
theorem dksX8_quarrels_0 : cX8_quarrels.data.toList.drop 0 = dktX8_quarrels_0 := by decide +kernel
theorem dksX8_quarrels_1 : cX8_quarrels.data.toList.drop 23 = dktX8_quarrels_1 := dk_seg dksX8_quarrels_0 23 rfl rfl
theorem dksX8_quarrels_2 : cX8_quarrels.data.toList.drop 47 = dktX8_quarrels_2 := dk_seg dksX8_quarrels_1 24 rfl rfl
theorem dksX8_quarrels_3 : cX8_quarrels.data.toList.drop 69 = dktX8_quarrels_3 := dk_seg dksX8_quarrels_2 22 rfl rfl
theorem dX8_quarrels_0 : decode cX8_quarrels 0 = .ok (.iload_n 1, 1) := dk_27 (dk_at dksX8_quarrels_0 0 rfl rfl)
theorem dX8_quarrels_1 : decode cX8_quarrels 1 = .ok (.iconst (-1), 1) := dk_2 (dk_at dksX8_quarrels_0 1 rfl rfl)
theorem dX8_quarrels_2 : decode cX8_quarrels 2 = .ok (.if_icmp .eq 24, 3) := dk_159 0 24 (dk_at dksX8_quarrels_0 2 rfl rfl)
theorem dX8_quarrels_5 : decode cX8_quarrels 5 = .ok (.iload_n 2, 1) := dk_28 (dk_at dksX8_quarrels_0 5 rfl rfl)
theorem dX8_quarrels_6 : decode cX8_quarrels 6 = .ok (.iconst (-1), 1) := dk_2 (dk_at dksX8_quarrels_0 6 rfl rfl)
theorem dX8_quarrels_7 : decode cX8_quarrels 7 = .ok (.if_icmp .eq 19, 3) := dk_159 0 19 (dk_at dksX8_quarrels_0 7 rfl rfl)
theorem dX8_quarrels_10 : decode cX8_quarrels 10 = .ok (.aload_n 0, 1) := dk_42 (dk_at dksX8_quarrels_0 10 rfl rfl)
theorem dX8_quarrels_11 : decode cX8_quarrels 11 = .ok (.iload_n 1, 1) := dk_27 (dk_at dksX8_quarrels_0 11 rfl rfl)
theorem dX8_quarrels_12 : decode cX8_quarrels 12 = .ok (.invokevirtual 131, 3) := dk_182 0 131 (dk_at dksX8_quarrels_0 12 rfl rfl)
theorem dX8_quarrels_15 : decode cX8_quarrels 15 = .ok (.ifCond .ne 11, 3) := dk_154 0 11 (dk_at dksX8_quarrels_0 15 rfl rfl)
theorem dX8_quarrels_18 : decode cX8_quarrels 18 = .ok (.aload_n 0, 1) := dk_42 (dk_at dksX8_quarrels_0 18 rfl rfl)
theorem dX8_quarrels_19 : decode cX8_quarrels 19 = .ok (.iload_n 2, 1) := dk_28 (dk_at dksX8_quarrels_0 19 rfl rfl)
theorem dX8_quarrels_20 : decode cX8_quarrels 20 = .ok (.invokevirtual 131, 3) := dk_182 0 131 (dk_at dksX8_quarrels_0 20 rfl rfl)
theorem dX8_quarrels_23 : decode cX8_quarrels 23 = .ok (.ifCond .eq 5, 3) := dk_153 0 5 (dk_at dksX8_quarrels_1 0 rfl rfl)
theorem dX8_quarrels_26 : decode cX8_quarrels 26 = .ok (.iconst 0, 1) := dk_3 (dk_at dksX8_quarrels_1 3 rfl rfl)
theorem dX8_quarrels_27 : decode cX8_quarrels 27 = .ok (.ireturn, 1) := dk_172 (dk_at dksX8_quarrels_1 4 rfl rfl)
theorem dX8_quarrels_28 : decode cX8_quarrels 28 = .ok (.aload_n 0, 1) := dk_42 (dk_at dksX8_quarrels_1 5 rfl rfl)
theorem dX8_quarrels_29 : decode cX8_quarrels 29 = .ok (.getfield 35, 3) := dk_180 0 35 (dk_at dksX8_quarrels_1 6 rfl rfl)
theorem dX8_quarrels_32 : decode cX8_quarrels 32 = .ok (.iconst 3, 1) := dk_6 (dk_at dksX8_quarrels_1 9 rfl rfl)
theorem dX8_quarrels_33 : decode cX8_quarrels 33 = .ok (.iload_n 1, 1) := dk_27 (dk_at dksX8_quarrels_1 10 rfl rfl)
theorem dX8_quarrels_34 : decode cX8_quarrels 34 = .ok (.imul, 1) := dk_104 (dk_at dksX8_quarrels_1 11 rfl rfl)
theorem dX8_quarrels_35 : decode cX8_quarrels 35 = .ok (.iconst 1, 1) := dk_4 (dk_at dksX8_quarrels_1 12 rfl rfl)
theorem dX8_quarrels_36 : decode cX8_quarrels 36 = .ok (.iadd, 1) := dk_96 (dk_at dksX8_quarrels_1 13 rfl rfl)
theorem dX8_quarrels_37 : decode cX8_quarrels 37 = .ok (.iaload, 1) := dk_46 (dk_at dksX8_quarrels_1 14 rfl rfl)
theorem dX8_quarrels_38 : decode cX8_quarrels 38 = .ok (.aload_n 0, 1) := dk_42 (dk_at dksX8_quarrels_1 15 rfl rfl)
theorem dX8_quarrels_39 : decode cX8_quarrels 39 = .ok (.getfield 35, 3) := dk_180 0 35 (dk_at dksX8_quarrels_1 16 rfl rfl)
theorem dX8_quarrels_42 : decode cX8_quarrels 42 = .ok (.iconst 3, 1) := dk_6 (dk_at dksX8_quarrels_1 19 rfl rfl)
theorem dX8_quarrels_43 : decode cX8_quarrels 43 = .ok (.iload_n 2, 1) := dk_28 (dk_at dksX8_quarrels_1 20 rfl rfl)
theorem dX8_quarrels_44 : decode cX8_quarrels 44 = .ok (.imul, 1) := dk_104 (dk_at dksX8_quarrels_1 21 rfl rfl)
theorem dX8_quarrels_45 : decode cX8_quarrels 45 = .ok (.iconst 1, 1) := dk_4 (dk_at dksX8_quarrels_1 22 rfl rfl)
theorem dX8_quarrels_46 : decode cX8_quarrels 46 = .ok (.iadd, 1) := dk_96 (dk_at dksX8_quarrels_1 23 rfl rfl)
theorem dX8_quarrels_47 : decode cX8_quarrels 47 = .ok (.iaload, 1) := dk_46 (dk_at dksX8_quarrels_2 0 rfl rfl)
theorem dX8_quarrels_48 : decode cX8_quarrels 48 = .ok (.isub, 1) := dk_100 (dk_at dksX8_quarrels_2 1 rfl rfl)
theorem dX8_quarrels_49 : decode cX8_quarrels 49 = .ok (.istore 4, 2) := dk_54 4 (dk_at dksX8_quarrels_2 2 rfl rfl)
theorem dX8_quarrels_51 : decode cX8_quarrels 51 = .ok (.aload_n 0, 1) := dk_42 (dk_at dksX8_quarrels_2 4 rfl rfl)
theorem dX8_quarrels_52 : decode cX8_quarrels 52 = .ok (.iconst 2, 1) := dk_5 (dk_at dksX8_quarrels_2 5 rfl rfl)
theorem dX8_quarrels_53 : decode cX8_quarrels 53 = .ok (.iload_n 1, 1) := dk_27 (dk_at dksX8_quarrels_2 6 rfl rfl)
theorem dX8_quarrels_54 : decode cX8_quarrels 54 = .ok (.iload_n 3, 1) := dk_29 (dk_at dksX8_quarrels_2 7 rfl rfl)
theorem dX8_quarrels_55 : decode cX8_quarrels 55 = .ok (.iconst 4, 1) := dk_7 (dk_at dksX8_quarrels_2 8 rfl rfl)
theorem dX8_quarrels_56 : decode cX8_quarrels 56 = .ok (.iload 4, 2) := dk_21 4 (dk_at dksX8_quarrels_2 9 rfl rfl)
theorem dX8_quarrels_58 : decode cX8_quarrels 58 = .ok (.ifCond .ge 9, 3) := dk_156 0 9 (dk_at dksX8_quarrels_2 11 rfl rfl)
theorem dX8_quarrels_61 : decode cX8_quarrels 61 = .ok (.iload 4, 2) := dk_21 4 (dk_at dksX8_quarrels_2 14 rfl rfl)
theorem dX8_quarrels_63 : decode cX8_quarrels 63 = .ok (.ineg, 1) := dk_116 (dk_at dksX8_quarrels_2 16 rfl rfl)
theorem dX8_quarrels_64 : decode cX8_quarrels 64 = .ok (.goto 5, 3) := dk_167 0 5 (dk_at dksX8_quarrels_2 17 rfl rfl)
theorem dX8_quarrels_67 : decode cX8_quarrels 67 = .ok (.iload 4, 2) := dk_21 4 (dk_at dksX8_quarrels_2 20 rfl rfl)
theorem dX8_quarrels_69 : decode cX8_quarrels 69 = .ok (.invokevirtual 273, 3) := dk_182 1 17 (dk_at dksX8_quarrels_3 0 rfl rfl)
theorem dX8_quarrels_72 : decode cX8_quarrels 72 = .ok (.ifCond .eq 7, 3) := dk_153 0 7 (dk_at dksX8_quarrels_3 3 rfl rfl)
theorem dX8_quarrels_75 : decode cX8_quarrels 75 = .ok (.iconst 1, 1) := dk_4 (dk_at dksX8_quarrels_3 6 rfl rfl)
theorem dX8_quarrels_76 : decode cX8_quarrels 76 = .ok (.goto 4, 3) := dk_167 0 4 (dk_at dksX8_quarrels_3 7 rfl rfl)
theorem dX8_quarrels_79 : decode cX8_quarrels 79 = .ok (.iconst 0, 1) := dk_3 (dk_at dksX8_quarrels_3 10 rfl rfl)
theorem dX8_quarrels_80 : decode cX8_quarrels 80 = .ok (.ireturn, 1) := dk_172 (dk_at dksX8_quarrels_3 11 rfl rfl)
abbrev cX8_half : ByteArray := prog_16_method_50_code
def yX8_half : MethodName := ⟨RX8, "half", "(I)I"⟩
def dkwX8_half_2 : List UInt8 := [62, 5, 29, 104, 28, 161, 0, 6, 21, 4, 172, 132, 4, 1, 167, 255, 216, 2, 172]
abbrev dktX8_half_2 : List UInt8 := dkwX8_half_2 ++ []
def dkwX8_half_1 : List UInt8 := [16, 8, 162, 0, 39, 28, 158, 0, 35, 29, 42, 42, 180, 0, 29, 27, 46, 27, 21, 4, 182, 1, 23, 96]
abbrev dktX8_half_1 : List UInt8 := dkwX8_half_1 ++ dktX8_half_2
def dkwX8_half_0 : List UInt8 := [27, 184, 0, 94, 154, 0, 6, 16, 254, 172, 42, 27, 182, 0, 139, 61, 3, 62, 3, 54, 4, 21, 4]
abbrev dktX8_half_0 : List UInt8 := dkwX8_half_0 ++ dktX8_half_1
theorem dksX8_half_0 : cX8_half.data.toList.drop 0 = dktX8_half_0 := by decide +kernel
theorem dksX8_half_1 : cX8_half.data.toList.drop 23 = dktX8_half_1 := dk_seg dksX8_half_0 23 rfl rfl
theorem dksX8_half_2 : cX8_half.data.toList.drop 47 = dktX8_half_2 := dk_seg dksX8_half_1 24 rfl rfl
theorem dX8_half_0 : decode cX8_half 0 = .ok (.iload_n 1, 1) := dk_27 (dk_at dksX8_half_0 0 rfl rfl)
theorem dX8_half_1 : decode cX8_half 1 = .ok (.invokestatic 94, 3) := dk_184 0 94 (dk_at dksX8_half_0 1 rfl rfl)
theorem dX8_half_4 : decode cX8_half 4 = .ok (.ifCond .ne 6, 3) := dk_154 0 6 (dk_at dksX8_half_0 4 rfl rfl)
theorem dX8_half_7 : decode cX8_half 7 = .ok (.bipush (-2), 2) := dk_16 254 (dk_at dksX8_half_0 7 rfl rfl)
theorem dX8_half_9 : decode cX8_half 9 = .ok (.ireturn, 1) := dk_172 (dk_at dksX8_half_0 9 rfl rfl)
theorem dX8_half_10 : decode cX8_half 10 = .ok (.aload_n 0, 1) := dk_42 (dk_at dksX8_half_0 10 rfl rfl)
theorem dX8_half_11 : decode cX8_half 11 = .ok (.iload_n 1, 1) := dk_27 (dk_at dksX8_half_0 11 rfl rfl)
theorem dX8_half_12 : decode cX8_half 12 = .ok (.invokevirtual 139, 3) := dk_182 0 139 (dk_at dksX8_half_0 12 rfl rfl)
theorem dX8_half_15 : decode cX8_half 15 = .ok (.istore_n 2, 1) := dk_61 (dk_at dksX8_half_0 15 rfl rfl)
theorem dX8_half_16 : decode cX8_half 16 = .ok (.iconst 0, 1) := dk_3 (dk_at dksX8_half_0 16 rfl rfl)
theorem dX8_half_17 : decode cX8_half 17 = .ok (.istore_n 3, 1) := dk_62 (dk_at dksX8_half_0 17 rfl rfl)
theorem dX8_half_18 : decode cX8_half 18 = .ok (.iconst 0, 1) := dk_3 (dk_at dksX8_half_0 18 rfl rfl)
theorem dX8_half_19 : decode cX8_half 19 = .ok (.istore 4, 2) := dk_54 4 (dk_at dksX8_half_0 19 rfl rfl)
theorem dX8_half_21 : decode cX8_half 21 = .ok (.iload 4, 2) := dk_21 4 (dk_at dksX8_half_0 21 rfl rfl)
theorem dX8_half_23 : decode cX8_half 23 = .ok (.bipush 8, 2) := dk_16 8 (dk_at dksX8_half_1 0 rfl rfl)
theorem dX8_half_25 : decode cX8_half 25 = .ok (.if_icmp .ge 39, 3) := dk_162 0 39 (dk_at dksX8_half_1 2 rfl rfl)
theorem dX8_half_28 : decode cX8_half 28 = .ok (.iload_n 2, 1) := dk_28 (dk_at dksX8_half_1 5 rfl rfl)
theorem dX8_half_29 : decode cX8_half 29 = .ok (.ifCond .le 35, 3) := dk_158 0 35 (dk_at dksX8_half_1 6 rfl rfl)
theorem dX8_half_32 : decode cX8_half 32 = .ok (.iload_n 3, 1) := dk_29 (dk_at dksX8_half_1 9 rfl rfl)
theorem dX8_half_33 : decode cX8_half 33 = .ok (.aload_n 0, 1) := dk_42 (dk_at dksX8_half_1 10 rfl rfl)
theorem dX8_half_34 : decode cX8_half 34 = .ok (.aload_n 0, 1) := dk_42 (dk_at dksX8_half_1 11 rfl rfl)
theorem dX8_half_35 : decode cX8_half 35 = .ok (.getfield 29, 3) := dk_180 0 29 (dk_at dksX8_half_1 12 rfl rfl)
theorem dX8_half_38 : decode cX8_half 38 = .ok (.iload_n 1, 1) := dk_27 (dk_at dksX8_half_1 15 rfl rfl)
theorem dX8_half_39 : decode cX8_half 39 = .ok (.iaload, 1) := dk_46 (dk_at dksX8_half_1 16 rfl rfl)
theorem dX8_half_40 : decode cX8_half 40 = .ok (.iload_n 1, 1) := dk_27 (dk_at dksX8_half_1 17 rfl rfl)
theorem dX8_half_41 : decode cX8_half 41 = .ok (.iload 4, 2) := dk_21 4 (dk_at dksX8_half_1 18 rfl rfl)
theorem dX8_half_43 : decode cX8_half 43 = .ok (.invokevirtual 279, 3) := dk_182 1 23 (dk_at dksX8_half_1 20 rfl rfl)
theorem dX8_half_46 : decode cX8_half 46 = .ok (.iadd, 1) := dk_96 (dk_at dksX8_half_1 23 rfl rfl)
theorem dX8_half_47 : decode cX8_half 47 = .ok (.istore_n 3, 1) := dk_62 (dk_at dksX8_half_2 0 rfl rfl)
theorem dX8_half_48 : decode cX8_half 48 = .ok (.iconst 2, 1) := dk_5 (dk_at dksX8_half_2 1 rfl rfl)
theorem dX8_half_49 : decode cX8_half 49 = .ok (.iload_n 3, 1) := dk_29 (dk_at dksX8_half_2 2 rfl rfl)
theorem dX8_half_50 : decode cX8_half 50 = .ok (.imul, 1) := dk_104 (dk_at dksX8_half_2 3 rfl rfl)
theorem dX8_half_51 : decode cX8_half 51 = .ok (.iload_n 2, 1) := dk_28 (dk_at dksX8_half_2 4 rfl rfl)
theorem dX8_half_52 : decode cX8_half 52 = .ok (.if_icmp .lt 6, 3) := dk_161 0 6 (dk_at dksX8_half_2 5 rfl rfl)
theorem dX8_half_55 : decode cX8_half 55 = .ok (.iload 4, 2) := dk_21 4 (dk_at dksX8_half_2 8 rfl rfl)
theorem dX8_half_57 : decode cX8_half 57 = .ok (.ireturn, 1) := dk_172 (dk_at dksX8_half_2 10 rfl rfl)
theorem dX8_half_58 : decode cX8_half 58 = .ok (.iinc 4 1, 3) := dk_132 4 1 (dk_at dksX8_half_2 11 rfl rfl)
theorem dX8_half_61 : decode cX8_half 61 = .ok (.goto (-40), 3) := dk_167 255 216 (dk_at dksX8_half_2 14 rfl rfl)
theorem dX8_half_64 : decode cX8_half 64 = .ok (.iconst (-1), 1) := dk_2 (dk_at dksX8_half_2 17 rfl rfl)
theorem dX8_half_65 : decode cX8_half 65 = .ok (.ireturn, 1) := dk_172 (dk_at dksX8_half_2 18 rfl rfl)
abbrev cX8_brightest : ByteArray := prog_16_method_55_code
def yX8_brightest : MethodName := ⟨RX8, "brightest", "(I)I"⟩
def dkwX8_brightest_1 : List UInt8 := [180, 1, 48, 167, 0, 7, 42, 180, 1, 45, 172]
abbrev dktX8_brightest_1 : List UInt8 := dkwX8_brightest_1 ++ []
def dkwX8_brightest_0 : List UInt8 := [27, 133, 9, 10, 184, 0, 88, 154, 0, 6, 16, 254, 172, 42, 3, 182, 1, 62, 27, 154, 0, 10, 42]
abbrev dktX8_brightest_0 : List UInt8 := dkwX8_brightest_0 ++ dktX8_brightest_1
theorem dksX8_brightest_0 : cX8_brightest.data.toList.drop 0 = dktX8_brightest_0 := by decide +kernel
theorem dksX8_brightest_1 : cX8_brightest.data.toList.drop 23 = dktX8_brightest_1 := dk_seg dksX8_brightest_0 23 rfl rfl
theorem dX8_brightest_0 : decode cX8_brightest 0 = .ok (.iload_n 1, 1) := dk_27 (dk_at dksX8_brightest_0 0 rfl rfl)
theorem dX8_brightest_1 : decode cX8_brightest 1 = .ok (.i2l, 1) := dk_133 (dk_at dksX8_brightest_0 1 rfl rfl)
theorem dX8_brightest_2 : decode cX8_brightest 2 = .ok (.lconst 0, 1) := dk_9 (dk_at dksX8_brightest_0 2 rfl rfl)
theorem dX8_brightest_3 : decode cX8_brightest 3 = .ok (.lconst 1, 1) := dk_10 (dk_at dksX8_brightest_0 3 rfl rfl)
theorem dX8_brightest_4 : decode cX8_brightest 4 = .ok (.invokestatic 88, 3) := dk_184 0 88 (dk_at dksX8_brightest_0 4 rfl rfl)
theorem dX8_brightest_7 : decode cX8_brightest 7 = .ok (.ifCond .ne 6, 3) := dk_154 0 6 (dk_at dksX8_brightest_0 7 rfl rfl)
theorem dX8_brightest_10 : decode cX8_brightest 10 = .ok (.bipush (-2), 2) := dk_16 254 (dk_at dksX8_brightest_0 10 rfl rfl)
theorem dX8_brightest_12 : decode cX8_brightest 12 = .ok (.ireturn, 1) := dk_172 (dk_at dksX8_brightest_0 12 rfl rfl)
theorem dX8_brightest_13 : decode cX8_brightest 13 = .ok (.aload_n 0, 1) := dk_42 (dk_at dksX8_brightest_0 13 rfl rfl)
theorem dX8_brightest_14 : decode cX8_brightest 14 = .ok (.iconst 0, 1) := dk_3 (dk_at dksX8_brightest_0 14 rfl rfl)
theorem dX8_brightest_15 : decode cX8_brightest 15 = .ok (.invokevirtual 318, 3) := dk_182 1 62 (dk_at dksX8_brightest_0 15 rfl rfl)
theorem dX8_brightest_18 : decode cX8_brightest 18 = .ok (.iload_n 1, 1) := dk_27 (dk_at dksX8_brightest_0 18 rfl rfl)
theorem dX8_brightest_19 : decode cX8_brightest 19 = .ok (.ifCond .ne 10, 3) := dk_154 0 10 (dk_at dksX8_brightest_0 19 rfl rfl)
theorem dX8_brightest_22 : decode cX8_brightest 22 = .ok (.aload_n 0, 1) := dk_42 (dk_at dksX8_brightest_0 22 rfl rfl)
theorem dX8_brightest_23 : decode cX8_brightest 23 = .ok (.getfield 304, 3) := dk_180 1 48 (dk_at dksX8_brightest_1 0 rfl rfl)
theorem dX8_brightest_26 : decode cX8_brightest 26 = .ok (.goto 7, 3) := dk_167 0 7 (dk_at dksX8_brightest_1 3 rfl rfl)
theorem dX8_brightest_29 : decode cX8_brightest 29 = .ok (.aload_n 0, 1) := dk_42 (dk_at dksX8_brightest_1 6 rfl rfl)
theorem dX8_brightest_30 : decode cX8_brightest 30 = .ok (.getfield 301, 3) := dk_180 1 45 (dk_at dksX8_brightest_1 7 rfl rfl)
theorem dX8_brightest_33 : decode cX8_brightest 33 = .ok (.ireturn, 1) := dk_172 (dk_at dksX8_brightest_1 10 rfl rfl)
abbrev cX8_finds : ByteArray := prog_16_method_54_code
def yX8_finds : MethodName := ⟨RX8, "finds", "(I)V"⟩
def dkwX8_finds_1 : List UInt8 := [42, 3, 3, 3, 3, 3, 4, 182, 1, 55, 177]
abbrev dktX8_finds_1 : List UInt8 := dkwX8_finds_1 ++ []
def dkwX8_finds_0 : List UInt8 := [42, 182, 1, 59, 42, 27, 181, 1, 39, 42, 3, 181, 1, 42, 42, 2, 181, 1, 48, 42, 4, 181, 1, 45]
abbrev dktX8_finds_0 : List UInt8 := dkwX8_finds_0 ++ dktX8_finds_1
theorem dksX8_finds_0 : cX8_finds.data.toList.drop 0 = dktX8_finds_0 := by decide +kernel
theorem dksX8_finds_1 : cX8_finds.data.toList.drop 24 = dktX8_finds_1 := dk_seg dksX8_finds_0 24 rfl rfl
theorem dX8_finds_0 : decode cX8_finds 0 = .ok (.aload_n 0, 1) := dk_42 (dk_at dksX8_finds_0 0 rfl rfl)
theorem dX8_finds_1 : decode cX8_finds 1 = .ok (.invokevirtual 315, 3) := dk_182 1 59 (dk_at dksX8_finds_0 1 rfl rfl)
theorem dX8_finds_4 : decode cX8_finds 4 = .ok (.aload_n 0, 1) := dk_42 (dk_at dksX8_finds_0 4 rfl rfl)
theorem dX8_finds_5 : decode cX8_finds 5 = .ok (.iload_n 1, 1) := dk_27 (dk_at dksX8_finds_0 5 rfl rfl)
theorem dX8_finds_6 : decode cX8_finds 6 = .ok (.putfield 295, 3) := dk_181 1 39 (dk_at dksX8_finds_0 6 rfl rfl)
theorem dX8_finds_9 : decode cX8_finds 9 = .ok (.aload_n 0, 1) := dk_42 (dk_at dksX8_finds_0 9 rfl rfl)
theorem dX8_finds_10 : decode cX8_finds 10 = .ok (.iconst 0, 1) := dk_3 (dk_at dksX8_finds_0 10 rfl rfl)
theorem dX8_finds_11 : decode cX8_finds 11 = .ok (.putfield 298, 3) := dk_181 1 42 (dk_at dksX8_finds_0 11 rfl rfl)
theorem dX8_finds_14 : decode cX8_finds 14 = .ok (.aload_n 0, 1) := dk_42 (dk_at dksX8_finds_0 14 rfl rfl)
theorem dX8_finds_15 : decode cX8_finds 15 = .ok (.iconst (-1), 1) := dk_2 (dk_at dksX8_finds_0 15 rfl rfl)
theorem dX8_finds_16 : decode cX8_finds 16 = .ok (.putfield 304, 3) := dk_181 1 48 (dk_at dksX8_finds_0 16 rfl rfl)
theorem dX8_finds_19 : decode cX8_finds 19 = .ok (.aload_n 0, 1) := dk_42 (dk_at dksX8_finds_0 19 rfl rfl)
theorem dX8_finds_20 : decode cX8_finds 20 = .ok (.iconst 1, 1) := dk_4 (dk_at dksX8_finds_0 20 rfl rfl)
theorem dX8_finds_21 : decode cX8_finds 21 = .ok (.putfield 301, 3) := dk_181 1 45 (dk_at dksX8_finds_0 21 rfl rfl)
theorem dX8_finds_24 : decode cX8_finds 24 = .ok (.aload_n 0, 1) := dk_42 (dk_at dksX8_finds_1 0 rfl rfl)
theorem dX8_finds_25 : decode cX8_finds 25 = .ok (.iconst 0, 1) := dk_3 (dk_at dksX8_finds_1 1 rfl rfl)
theorem dX8_finds_26 : decode cX8_finds 26 = .ok (.iconst 0, 1) := dk_3 (dk_at dksX8_finds_1 2 rfl rfl)
theorem dX8_finds_27 : decode cX8_finds 27 = .ok (.iconst 0, 1) := dk_3 (dk_at dksX8_finds_1 3 rfl rfl)
theorem dX8_finds_28 : decode cX8_finds 28 = .ok (.iconst 0, 1) := dk_3 (dk_at dksX8_finds_1 4 rfl rfl)
theorem dX8_finds_29 : decode cX8_finds 29 = .ok (.iconst 0, 1) := dk_3 (dk_at dksX8_finds_1 5 rfl rfl)
theorem dX8_finds_30 : decode cX8_finds 30 = .ok (.iconst 1, 1) := dk_4 (dk_at dksX8_finds_1 6 rfl rfl)
theorem dX8_finds_31 : decode cX8_finds 31 = .ok (.invokevirtual 311, 3) := dk_182 1 55 (dk_at dksX8_finds_1 7 rfl rfl)
theorem dX8_finds_34 : decode cX8_finds 34 = .ok (.return_, 1) := dk_177 (dk_at dksX8_finds_1 10 rfl rfl)
abbrev cX8_tables : ByteArray := prog_16_method_51_code
def yX8_tables : MethodName := ⟨RX8, "tables", "()V"⟩
def dkwX8_tables_5 : List UInt8 := [132, 1, 1, 167, 255, 139, 177]
abbrev dktX8_tables_5 : List UInt8 := dkwX8_tables_5 ++ []
def dkwX8_tables_4 : List UInt8 := [182, 1, 29, 153, 0, 7, 4, 167, 0, 4, 3, 84, 132, 3, 1, 167, 255, 211, 132, 2, 1, 167, 255, 195]
abbrev dktX8_tables_4 : List UInt8 := dkwX8_tables_4 ++ dktX8_tables_5
def dkwX8_tables_3 : List UInt8 := [180, 0, 44, 16, 18, 27, 104, 6, 28, 104, 96, 29, 96, 27, 28, 159, 0, 17, 42, 27, 28, 29]
abbrev dktX8_tables_3 : List UInt8 := dkwX8_tables_3 ++ dktX8_tables_4
def dkwX8_tables_2 : List UInt8 := [167, 255, 232, 3, 61, 28, 42, 180, 0, 85, 162, 0, 59, 3, 62, 29, 4, 96, 7, 162, 0, 44, 42]
abbrev dktX8_tables_2 : List UInt8 := dkwX8_tables_2 ++ dktX8_tables_3
def dkwX8_tables_1 : List UInt8 := [7, 162, 0, 25, 42, 180, 0, 38, 7, 27, 104, 28, 96, 42, 27, 28, 182, 1, 26, 79, 132, 2, 1]
abbrev dktX8_tables_1 : List UInt8 := dkwX8_tables_1 ++ dktX8_tables_2
def dkwX8_tables_0 : List UInt8 := [3, 60, 27, 42, 180, 0, 85, 162, 0, 115, 42, 180, 0, 41, 27, 42, 27, 182, 0, 145, 79, 3, 61, 28]
abbrev dktX8_tables_0 : List UInt8 := dkwX8_tables_0 ++ dktX8_tables_1
theorem dksX8_tables_0 : cX8_tables.data.toList.drop 0 = dktX8_tables_0 := by decide +kernel
theorem dksX8_tables_1 : cX8_tables.data.toList.drop 24 = dktX8_tables_1 := dk_seg dksX8_tables_0 24 rfl rfl
theorem dksX8_tables_2 : cX8_tables.data.toList.drop 47 = dktX8_tables_2 := dk_seg dksX8_tables_1 23 rfl rfl
theorem dksX8_tables_3 : cX8_tables.data.toList.drop 70 = dktX8_tables_3 := dk_seg dksX8_tables_2 23 rfl rfl
theorem dksX8_tables_4 : cX8_tables.data.toList.drop 92 = dktX8_tables_4 := dk_seg dksX8_tables_3 22 rfl rfl
theorem dksX8_tables_5 : cX8_tables.data.toList.drop 116 = dktX8_tables_5 := dk_seg dksX8_tables_4 24 rfl rfl
theorem dX8_tables_0 : decode cX8_tables 0 = .ok (.iconst 0, 1) := dk_3 (dk_at dksX8_tables_0 0 rfl rfl)
theorem dX8_tables_1 : decode cX8_tables 1 = .ok (.istore_n 1, 1) := dk_60 (dk_at dksX8_tables_0 1 rfl rfl)
theorem dX8_tables_2 : decode cX8_tables 2 = .ok (.iload_n 1, 1) := dk_27 (dk_at dksX8_tables_0 2 rfl rfl)
theorem dX8_tables_3 : decode cX8_tables 3 = .ok (.aload_n 0, 1) := dk_42 (dk_at dksX8_tables_0 3 rfl rfl)
theorem dX8_tables_4 : decode cX8_tables 4 = .ok (.getfield 85, 3) := dk_180 0 85 (dk_at dksX8_tables_0 4 rfl rfl)
theorem dX8_tables_7 : decode cX8_tables 7 = .ok (.if_icmp .ge 115, 3) := dk_162 0 115 (dk_at dksX8_tables_0 7 rfl rfl)
theorem dX8_tables_10 : decode cX8_tables 10 = .ok (.aload_n 0, 1) := dk_42 (dk_at dksX8_tables_0 10 rfl rfl)
theorem dX8_tables_11 : decode cX8_tables 11 = .ok (.getfield 41, 3) := dk_180 0 41 (dk_at dksX8_tables_0 11 rfl rfl)
theorem dX8_tables_14 : decode cX8_tables 14 = .ok (.iload_n 1, 1) := dk_27 (dk_at dksX8_tables_0 14 rfl rfl)
theorem dX8_tables_15 : decode cX8_tables 15 = .ok (.aload_n 0, 1) := dk_42 (dk_at dksX8_tables_0 15 rfl rfl)
theorem dX8_tables_16 : decode cX8_tables 16 = .ok (.iload_n 1, 1) := dk_27 (dk_at dksX8_tables_0 16 rfl rfl)
theorem dX8_tables_17 : decode cX8_tables 17 = .ok (.invokevirtual 145, 3) := dk_182 0 145 (dk_at dksX8_tables_0 17 rfl rfl)
theorem dX8_tables_20 : decode cX8_tables 20 = .ok (.iastore, 1) := dk_79 (dk_at dksX8_tables_0 20 rfl rfl)
theorem dX8_tables_21 : decode cX8_tables 21 = .ok (.iconst 0, 1) := dk_3 (dk_at dksX8_tables_0 21 rfl rfl)
theorem dX8_tables_22 : decode cX8_tables 22 = .ok (.istore_n 2, 1) := dk_61 (dk_at dksX8_tables_0 22 rfl rfl)
theorem dX8_tables_23 : decode cX8_tables 23 = .ok (.iload_n 2, 1) := dk_28 (dk_at dksX8_tables_0 23 rfl rfl)
theorem dX8_tables_24 : decode cX8_tables 24 = .ok (.iconst 4, 1) := dk_7 (dk_at dksX8_tables_1 0 rfl rfl)
theorem dX8_tables_25 : decode cX8_tables 25 = .ok (.if_icmp .ge 25, 3) := dk_162 0 25 (dk_at dksX8_tables_1 1 rfl rfl)
theorem dX8_tables_28 : decode cX8_tables 28 = .ok (.aload_n 0, 1) := dk_42 (dk_at dksX8_tables_1 4 rfl rfl)
theorem dX8_tables_29 : decode cX8_tables 29 = .ok (.getfield 38, 3) := dk_180 0 38 (dk_at dksX8_tables_1 5 rfl rfl)
theorem dX8_tables_32 : decode cX8_tables 32 = .ok (.iconst 4, 1) := dk_7 (dk_at dksX8_tables_1 8 rfl rfl)
theorem dX8_tables_33 : decode cX8_tables 33 = .ok (.iload_n 1, 1) := dk_27 (dk_at dksX8_tables_1 9 rfl rfl)
theorem dX8_tables_34 : decode cX8_tables 34 = .ok (.imul, 1) := dk_104 (dk_at dksX8_tables_1 10 rfl rfl)
theorem dX8_tables_35 : decode cX8_tables 35 = .ok (.iload_n 2, 1) := dk_28 (dk_at dksX8_tables_1 11 rfl rfl)
theorem dX8_tables_36 : decode cX8_tables 36 = .ok (.iadd, 1) := dk_96 (dk_at dksX8_tables_1 12 rfl rfl)
theorem dX8_tables_37 : decode cX8_tables 37 = .ok (.aload_n 0, 1) := dk_42 (dk_at dksX8_tables_1 13 rfl rfl)
theorem dX8_tables_38 : decode cX8_tables 38 = .ok (.iload_n 1, 1) := dk_27 (dk_at dksX8_tables_1 14 rfl rfl)
theorem dX8_tables_39 : decode cX8_tables 39 = .ok (.iload_n 2, 1) := dk_28 (dk_at dksX8_tables_1 15 rfl rfl)
theorem dX8_tables_40 : decode cX8_tables 40 = .ok (.invokevirtual 282, 3) := dk_182 1 26 (dk_at dksX8_tables_1 16 rfl rfl)
theorem dX8_tables_43 : decode cX8_tables 43 = .ok (.iastore, 1) := dk_79 (dk_at dksX8_tables_1 19 rfl rfl)
theorem dX8_tables_44 : decode cX8_tables 44 = .ok (.iinc 2 1, 3) := dk_132 2 1 (dk_at dksX8_tables_1 20 rfl rfl)
theorem dX8_tables_47 : decode cX8_tables 47 = .ok (.goto (-24), 3) := dk_167 255 232 (dk_at dksX8_tables_2 0 rfl rfl)
theorem dX8_tables_50 : decode cX8_tables 50 = .ok (.iconst 0, 1) := dk_3 (dk_at dksX8_tables_2 3 rfl rfl)
theorem dX8_tables_51 : decode cX8_tables 51 = .ok (.istore_n 2, 1) := dk_61 (dk_at dksX8_tables_2 4 rfl rfl)
theorem dX8_tables_52 : decode cX8_tables 52 = .ok (.iload_n 2, 1) := dk_28 (dk_at dksX8_tables_2 5 rfl rfl)
theorem dX8_tables_53 : decode cX8_tables 53 = .ok (.aload_n 0, 1) := dk_42 (dk_at dksX8_tables_2 6 rfl rfl)
theorem dX8_tables_54 : decode cX8_tables 54 = .ok (.getfield 85, 3) := dk_180 0 85 (dk_at dksX8_tables_2 7 rfl rfl)
theorem dX8_tables_57 : decode cX8_tables 57 = .ok (.if_icmp .ge 59, 3) := dk_162 0 59 (dk_at dksX8_tables_2 10 rfl rfl)
theorem dX8_tables_60 : decode cX8_tables 60 = .ok (.iconst 0, 1) := dk_3 (dk_at dksX8_tables_2 13 rfl rfl)
theorem dX8_tables_61 : decode cX8_tables 61 = .ok (.istore_n 3, 1) := dk_62 (dk_at dksX8_tables_2 14 rfl rfl)
theorem dX8_tables_62 : decode cX8_tables 62 = .ok (.iload_n 3, 1) := dk_29 (dk_at dksX8_tables_2 15 rfl rfl)
theorem dX8_tables_63 : decode cX8_tables 63 = .ok (.iconst 1, 1) := dk_4 (dk_at dksX8_tables_2 16 rfl rfl)
theorem dX8_tables_64 : decode cX8_tables 64 = .ok (.iadd, 1) := dk_96 (dk_at dksX8_tables_2 17 rfl rfl)
theorem dX8_tables_65 : decode cX8_tables 65 = .ok (.iconst 4, 1) := dk_7 (dk_at dksX8_tables_2 18 rfl rfl)
theorem dX8_tables_66 : decode cX8_tables 66 = .ok (.if_icmp .ge 44, 3) := dk_162 0 44 (dk_at dksX8_tables_2 19 rfl rfl)
theorem dX8_tables_69 : decode cX8_tables 69 = .ok (.aload_n 0, 1) := dk_42 (dk_at dksX8_tables_2 22 rfl rfl)
theorem dX8_tables_70 : decode cX8_tables 70 = .ok (.getfield 44, 3) := dk_180 0 44 (dk_at dksX8_tables_3 0 rfl rfl)
theorem dX8_tables_73 : decode cX8_tables 73 = .ok (.bipush 18, 2) := dk_16 18 (dk_at dksX8_tables_3 3 rfl rfl)
theorem dX8_tables_75 : decode cX8_tables 75 = .ok (.iload_n 1, 1) := dk_27 (dk_at dksX8_tables_3 5 rfl rfl)
theorem dX8_tables_76 : decode cX8_tables 76 = .ok (.imul, 1) := dk_104 (dk_at dksX8_tables_3 6 rfl rfl)
theorem dX8_tables_77 : decode cX8_tables 77 = .ok (.iconst 3, 1) := dk_6 (dk_at dksX8_tables_3 7 rfl rfl)
theorem dX8_tables_78 : decode cX8_tables 78 = .ok (.iload_n 2, 1) := dk_28 (dk_at dksX8_tables_3 8 rfl rfl)
theorem dX8_tables_79 : decode cX8_tables 79 = .ok (.imul, 1) := dk_104 (dk_at dksX8_tables_3 9 rfl rfl)
theorem dX8_tables_80 : decode cX8_tables 80 = .ok (.iadd, 1) := dk_96 (dk_at dksX8_tables_3 10 rfl rfl)
theorem dX8_tables_81 : decode cX8_tables 81 = .ok (.iload_n 3, 1) := dk_29 (dk_at dksX8_tables_3 11 rfl rfl)
theorem dX8_tables_82 : decode cX8_tables 82 = .ok (.iadd, 1) := dk_96 (dk_at dksX8_tables_3 12 rfl rfl)
theorem dX8_tables_83 : decode cX8_tables 83 = .ok (.iload_n 1, 1) := dk_27 (dk_at dksX8_tables_3 13 rfl rfl)
theorem dX8_tables_84 : decode cX8_tables 84 = .ok (.iload_n 2, 1) := dk_28 (dk_at dksX8_tables_3 14 rfl rfl)
theorem dX8_tables_85 : decode cX8_tables 85 = .ok (.if_icmp .eq 17, 3) := dk_159 0 17 (dk_at dksX8_tables_3 15 rfl rfl)
theorem dX8_tables_88 : decode cX8_tables 88 = .ok (.aload_n 0, 1) := dk_42 (dk_at dksX8_tables_3 18 rfl rfl)
theorem dX8_tables_89 : decode cX8_tables 89 = .ok (.iload_n 1, 1) := dk_27 (dk_at dksX8_tables_3 19 rfl rfl)
theorem dX8_tables_90 : decode cX8_tables 90 = .ok (.iload_n 2, 1) := dk_28 (dk_at dksX8_tables_3 20 rfl rfl)
theorem dX8_tables_91 : decode cX8_tables 91 = .ok (.iload_n 3, 1) := dk_29 (dk_at dksX8_tables_3 21 rfl rfl)
theorem dX8_tables_92 : decode cX8_tables 92 = .ok (.invokevirtual 285, 3) := dk_182 1 29 (dk_at dksX8_tables_4 0 rfl rfl)
theorem dX8_tables_95 : decode cX8_tables 95 = .ok (.ifCond .eq 7, 3) := dk_153 0 7 (dk_at dksX8_tables_4 3 rfl rfl)
theorem dX8_tables_98 : decode cX8_tables 98 = .ok (.iconst 1, 1) := dk_4 (dk_at dksX8_tables_4 6 rfl rfl)
theorem dX8_tables_99 : decode cX8_tables 99 = .ok (.goto 4, 3) := dk_167 0 4 (dk_at dksX8_tables_4 7 rfl rfl)
theorem dX8_tables_102 : decode cX8_tables 102 = .ok (.iconst 0, 1) := dk_3 (dk_at dksX8_tables_4 10 rfl rfl)
theorem dX8_tables_103 : decode cX8_tables 103 = .ok (.bastore, 1) := dk_84 (dk_at dksX8_tables_4 11 rfl rfl)
theorem dX8_tables_104 : decode cX8_tables 104 = .ok (.iinc 3 1, 3) := dk_132 3 1 (dk_at dksX8_tables_4 12 rfl rfl)
theorem dX8_tables_107 : decode cX8_tables 107 = .ok (.goto (-45), 3) := dk_167 255 211 (dk_at dksX8_tables_4 15 rfl rfl)
theorem dX8_tables_110 : decode cX8_tables 110 = .ok (.iinc 2 1, 3) := dk_132 2 1 (dk_at dksX8_tables_4 18 rfl rfl)
theorem dX8_tables_113 : decode cX8_tables 113 = .ok (.goto (-61), 3) := dk_167 255 195 (dk_at dksX8_tables_4 21 rfl rfl)
theorem dX8_tables_116 : decode cX8_tables 116 = .ok (.iinc 1 1, 3) := dk_132 1 1 (dk_at dksX8_tables_5 0 rfl rfl)
theorem dX8_tables_119 : decode cX8_tables 119 = .ok (.goto (-117), 3) := dk_167 255 139 (dk_at dksX8_tables_5 3 rfl rfl)
theorem dX8_tables_122 : decode cX8_tables 122 = .ok (.return_, 1) := dk_177 (dk_at dksX8_tables_5 6 rfl rfl)
abbrev cX8_seeks : ByteArray := prog_16_method_53_code
def yX8_seeks : MethodName := ⟨RX8, "seeks", "(IIIIIZ)V"⟩
def dkwX8_seeks_9 : List UInt8 := [161, 0, 7, 4, 167, 0, 4, 3, 182, 1, 55, 132, 7, 1, 167, 255, 91, 177]
abbrev dktX8_seeks_9 : List UInt8 := dkwX8_seeks_9 ++ []
def dkwX8_seeks_8 : List UInt8 := [16, 10, 21, 5, 104, 21, 7, 96, 4, 96, 21, 6, 153, 0, 18, 21, 9, 42, 180, 0, 26, 27, 46]
abbrev dktX8_seeks_8 : List UInt8 := dkwX8_seeks_8 ++ dktX8_seeks_9
def dkwX8_seeks_7 : List UInt8 := [42, 27, 4, 96, 28, 4, 21, 7, 120, 128, 29, 21, 9, 96, 21, 4, 42, 180, 0, 41, 21, 7, 46, 96]
abbrev dktX8_seeks_7 : List UInt8 := dkwX8_seeks_7 ++ dktX8_seeks_8
def dkwX8_seeks_6 : List UInt8 := [154, 0, 82, 42, 180, 0, 48, 27, 21, 7, 79, 42, 180, 0, 38, 7, 21, 7, 104, 27, 96, 46, 54, 9]
abbrev dktX8_seeks_6 : List UInt8 := dkwX8_seeks_6 ++ dktX8_seeks_7
def dkwX8_seeks_5 : List UInt8 := [180, 0, 44, 16, 18, 42, 180, 0, 48, 27, 4, 100, 46, 104, 6, 21, 7, 104, 96, 27, 96, 4, 100, 51]
abbrev dktX8_seeks_5 : List UInt8 := dkwX8_seeks_5 ++ dktX8_seeks_6
def dkwX8_seeks_4 : List UInt8 := [21, 8, 153, 0, 126, 27, 153, 0, 43, 42, 180, 0, 48, 27, 4, 100, 46, 2, 159, 0, 31, 42]
abbrev dktX8_seeks_4 : List UInt8 := dkwX8_seeks_4 ++ dktX8_seeks_5
def dkwX8_seeks_3 : List UInt8 := [21, 7, 122, 4, 126, 154, 0, 16, 42, 21, 7, 182, 0, 131, 154, 0, 7, 4, 167, 0, 4, 3, 54, 8]
abbrev dktX8_seeks_3 : List UInt8 := dkwX8_seeks_3 ++ dktX8_seeks_4
def dkwX8_seeks_2 : List UInt8 := [154, 0, 7, 4, 167, 0, 4, 3, 182, 1, 55, 3, 54, 7, 21, 7, 42, 180, 0, 85, 162, 0, 162, 28]
abbrev dktX8_seeks_2 : List UInt8 := dkwX8_seeks_2 ++ dktX8_seeks_3
def dkwX8_seeks_1 : List UInt8 := [42, 27, 4, 96, 28, 29, 21, 4, 16, 10, 21, 5, 104, 21, 6, 153, 0, 16, 42, 180, 0, 26, 27, 46]
abbrev dktX8_seeks_1 : List UInt8 := dkwX8_seeks_1 ++ dktX8_seeks_2
def dkwX8_seeks_0 : List UInt8 := [27, 7, 160, 0, 15, 42, 29, 21, 4, 21, 5, 21, 6, 182, 1, 51, 177, 42, 180, 0, 48, 27, 2, 79]
abbrev dktX8_seeks_0 : List UInt8 := dkwX8_seeks_0 ++ dktX8_seeks_1
theorem dksX8_seeks_0 : cX8_seeks.data.toList.drop 0 = dktX8_seeks_0 := by decide +kernel
theorem dksX8_seeks_1 : cX8_seeks.data.toList.drop 24 = dktX8_seeks_1 := dk_seg dksX8_seeks_0 24 rfl rfl
theorem dksX8_seeks_2 : cX8_seeks.data.toList.drop 48 = dktX8_seeks_2 := dk_seg dksX8_seeks_1 24 rfl rfl
theorem dksX8_seeks_3 : cX8_seeks.data.toList.drop 72 = dktX8_seeks_3 := dk_seg dksX8_seeks_2 24 rfl rfl
theorem dksX8_seeks_4 : cX8_seeks.data.toList.drop 96 = dktX8_seeks_4 := dk_seg dksX8_seeks_3 24 rfl rfl
theorem dksX8_seeks_5 : cX8_seeks.data.toList.drop 118 = dktX8_seeks_5 := dk_seg dksX8_seeks_4 22 rfl rfl
theorem dksX8_seeks_6 : cX8_seeks.data.toList.drop 142 = dktX8_seeks_6 := dk_seg dksX8_seeks_5 24 rfl rfl
theorem dksX8_seeks_7 : cX8_seeks.data.toList.drop 166 = dktX8_seeks_7 := dk_seg dksX8_seeks_6 24 rfl rfl
theorem dksX8_seeks_8 : cX8_seeks.data.toList.drop 190 = dktX8_seeks_8 := dk_seg dksX8_seeks_7 24 rfl rfl
theorem dksX8_seeks_9 : cX8_seeks.data.toList.drop 213 = dktX8_seeks_9 := dk_seg dksX8_seeks_8 23 rfl rfl
theorem dX8_seeks_0 : decode cX8_seeks 0 = .ok (.iload_n 1, 1) := dk_27 (dk_at dksX8_seeks_0 0 rfl rfl)
theorem dX8_seeks_1 : decode cX8_seeks 1 = .ok (.iconst 4, 1) := dk_7 (dk_at dksX8_seeks_0 1 rfl rfl)
theorem dX8_seeks_2 : decode cX8_seeks 2 = .ok (.if_icmp .ne 15, 3) := dk_160 0 15 (dk_at dksX8_seeks_0 2 rfl rfl)
theorem dX8_seeks_5 : decode cX8_seeks 5 = .ok (.aload_n 0, 1) := dk_42 (dk_at dksX8_seeks_0 5 rfl rfl)
theorem dX8_seeks_6 : decode cX8_seeks 6 = .ok (.iload_n 3, 1) := dk_29 (dk_at dksX8_seeks_0 6 rfl rfl)
theorem dX8_seeks_7 : decode cX8_seeks 7 = .ok (.iload 4, 2) := dk_21 4 (dk_at dksX8_seeks_0 7 rfl rfl)
theorem dX8_seeks_9 : decode cX8_seeks 9 = .ok (.iload 5, 2) := dk_21 5 (dk_at dksX8_seeks_0 9 rfl rfl)
theorem dX8_seeks_11 : decode cX8_seeks 11 = .ok (.iload 6, 2) := dk_21 6 (dk_at dksX8_seeks_0 11 rfl rfl)
theorem dX8_seeks_13 : decode cX8_seeks 13 = .ok (.invokevirtual 307, 3) := dk_182 1 51 (dk_at dksX8_seeks_0 13 rfl rfl)
theorem dX8_seeks_16 : decode cX8_seeks 16 = .ok (.return_, 1) := dk_177 (dk_at dksX8_seeks_0 16 rfl rfl)
theorem dX8_seeks_17 : decode cX8_seeks 17 = .ok (.aload_n 0, 1) := dk_42 (dk_at dksX8_seeks_0 17 rfl rfl)
theorem dX8_seeks_18 : decode cX8_seeks 18 = .ok (.getfield 48, 3) := dk_180 0 48 (dk_at dksX8_seeks_0 18 rfl rfl)
theorem dX8_seeks_21 : decode cX8_seeks 21 = .ok (.iload_n 1, 1) := dk_27 (dk_at dksX8_seeks_0 21 rfl rfl)
theorem dX8_seeks_22 : decode cX8_seeks 22 = .ok (.iconst (-1), 1) := dk_2 (dk_at dksX8_seeks_0 22 rfl rfl)
theorem dX8_seeks_23 : decode cX8_seeks 23 = .ok (.iastore, 1) := dk_79 (dk_at dksX8_seeks_0 23 rfl rfl)
theorem dX8_seeks_24 : decode cX8_seeks 24 = .ok (.aload_n 0, 1) := dk_42 (dk_at dksX8_seeks_1 0 rfl rfl)
theorem dX8_seeks_25 : decode cX8_seeks 25 = .ok (.iload_n 1, 1) := dk_27 (dk_at dksX8_seeks_1 1 rfl rfl)
theorem dX8_seeks_26 : decode cX8_seeks 26 = .ok (.iconst 1, 1) := dk_4 (dk_at dksX8_seeks_1 2 rfl rfl)
theorem dX8_seeks_27 : decode cX8_seeks 27 = .ok (.iadd, 1) := dk_96 (dk_at dksX8_seeks_1 3 rfl rfl)
theorem dX8_seeks_28 : decode cX8_seeks 28 = .ok (.iload_n 2, 1) := dk_28 (dk_at dksX8_seeks_1 4 rfl rfl)
theorem dX8_seeks_29 : decode cX8_seeks 29 = .ok (.iload_n 3, 1) := dk_29 (dk_at dksX8_seeks_1 5 rfl rfl)
theorem dX8_seeks_30 : decode cX8_seeks 30 = .ok (.iload 4, 2) := dk_21 4 (dk_at dksX8_seeks_1 6 rfl rfl)
theorem dX8_seeks_32 : decode cX8_seeks 32 = .ok (.bipush 10, 2) := dk_16 10 (dk_at dksX8_seeks_1 8 rfl rfl)
theorem dX8_seeks_34 : decode cX8_seeks 34 = .ok (.iload 5, 2) := dk_21 5 (dk_at dksX8_seeks_1 10 rfl rfl)
theorem dX8_seeks_36 : decode cX8_seeks 36 = .ok (.imul, 1) := dk_104 (dk_at dksX8_seeks_1 12 rfl rfl)
theorem dX8_seeks_37 : decode cX8_seeks 37 = .ok (.iload 6, 2) := dk_21 6 (dk_at dksX8_seeks_1 13 rfl rfl)
theorem dX8_seeks_39 : decode cX8_seeks 39 = .ok (.ifCond .eq 16, 3) := dk_153 0 16 (dk_at dksX8_seeks_1 15 rfl rfl)
theorem dX8_seeks_42 : decode cX8_seeks 42 = .ok (.aload_n 0, 1) := dk_42 (dk_at dksX8_seeks_1 18 rfl rfl)
theorem dX8_seeks_43 : decode cX8_seeks 43 = .ok (.getfield 26, 3) := dk_180 0 26 (dk_at dksX8_seeks_1 19 rfl rfl)
theorem dX8_seeks_46 : decode cX8_seeks 46 = .ok (.iload_n 1, 1) := dk_27 (dk_at dksX8_seeks_1 22 rfl rfl)
theorem dX8_seeks_47 : decode cX8_seeks 47 = .ok (.iaload, 1) := dk_46 (dk_at dksX8_seeks_1 23 rfl rfl)
theorem dX8_seeks_48 : decode cX8_seeks 48 = .ok (.ifCond .ne 7, 3) := dk_154 0 7 (dk_at dksX8_seeks_2 0 rfl rfl)
theorem dX8_seeks_51 : decode cX8_seeks 51 = .ok (.iconst 1, 1) := dk_4 (dk_at dksX8_seeks_2 3 rfl rfl)
theorem dX8_seeks_52 : decode cX8_seeks 52 = .ok (.goto 4, 3) := dk_167 0 4 (dk_at dksX8_seeks_2 4 rfl rfl)
theorem dX8_seeks_55 : decode cX8_seeks 55 = .ok (.iconst 0, 1) := dk_3 (dk_at dksX8_seeks_2 7 rfl rfl)
theorem dX8_seeks_56 : decode cX8_seeks 56 = .ok (.invokevirtual 311, 3) := dk_182 1 55 (dk_at dksX8_seeks_2 8 rfl rfl)
theorem dX8_seeks_59 : decode cX8_seeks 59 = .ok (.iconst 0, 1) := dk_3 (dk_at dksX8_seeks_2 11 rfl rfl)
theorem dX8_seeks_60 : decode cX8_seeks 60 = .ok (.istore 7, 2) := dk_54 7 (dk_at dksX8_seeks_2 12 rfl rfl)
theorem dX8_seeks_62 : decode cX8_seeks 62 = .ok (.iload 7, 2) := dk_21 7 (dk_at dksX8_seeks_2 14 rfl rfl)
theorem dX8_seeks_64 : decode cX8_seeks 64 = .ok (.aload_n 0, 1) := dk_42 (dk_at dksX8_seeks_2 16 rfl rfl)
theorem dX8_seeks_65 : decode cX8_seeks 65 = .ok (.getfield 85, 3) := dk_180 0 85 (dk_at dksX8_seeks_2 17 rfl rfl)
theorem dX8_seeks_68 : decode cX8_seeks 68 = .ok (.if_icmp .ge 162, 3) := dk_162 0 162 (dk_at dksX8_seeks_2 20 rfl rfl)
theorem dX8_seeks_71 : decode cX8_seeks 71 = .ok (.iload_n 2, 1) := dk_28 (dk_at dksX8_seeks_2 23 rfl rfl)
theorem dX8_seeks_72 : decode cX8_seeks 72 = .ok (.iload 7, 2) := dk_21 7 (dk_at dksX8_seeks_3 0 rfl rfl)
theorem dX8_seeks_74 : decode cX8_seeks 74 = .ok (.ishr, 1) := dk_122 (dk_at dksX8_seeks_3 2 rfl rfl)
theorem dX8_seeks_75 : decode cX8_seeks 75 = .ok (.iconst 1, 1) := dk_4 (dk_at dksX8_seeks_3 3 rfl rfl)
theorem dX8_seeks_76 : decode cX8_seeks 76 = .ok (.iand, 1) := dk_126 (dk_at dksX8_seeks_3 4 rfl rfl)
theorem dX8_seeks_77 : decode cX8_seeks 77 = .ok (.ifCond .ne 16, 3) := dk_154 0 16 (dk_at dksX8_seeks_3 5 rfl rfl)
theorem dX8_seeks_80 : decode cX8_seeks 80 = .ok (.aload_n 0, 1) := dk_42 (dk_at dksX8_seeks_3 8 rfl rfl)
theorem dX8_seeks_81 : decode cX8_seeks 81 = .ok (.iload 7, 2) := dk_21 7 (dk_at dksX8_seeks_3 9 rfl rfl)
theorem dX8_seeks_83 : decode cX8_seeks 83 = .ok (.invokevirtual 131, 3) := dk_182 0 131 (dk_at dksX8_seeks_3 11 rfl rfl)
theorem dX8_seeks_86 : decode cX8_seeks 86 = .ok (.ifCond .ne 7, 3) := dk_154 0 7 (dk_at dksX8_seeks_3 14 rfl rfl)
theorem dX8_seeks_89 : decode cX8_seeks 89 = .ok (.iconst 1, 1) := dk_4 (dk_at dksX8_seeks_3 17 rfl rfl)
theorem dX8_seeks_90 : decode cX8_seeks 90 = .ok (.goto 4, 3) := dk_167 0 4 (dk_at dksX8_seeks_3 18 rfl rfl)
theorem dX8_seeks_93 : decode cX8_seeks 93 = .ok (.iconst 0, 1) := dk_3 (dk_at dksX8_seeks_3 21 rfl rfl)
theorem dX8_seeks_94 : decode cX8_seeks 94 = .ok (.istore 8, 2) := dk_54 8 (dk_at dksX8_seeks_3 22 rfl rfl)
theorem dX8_seeks_96 : decode cX8_seeks 96 = .ok (.iload 8, 2) := dk_21 8 (dk_at dksX8_seeks_4 0 rfl rfl)
theorem dX8_seeks_98 : decode cX8_seeks 98 = .ok (.ifCond .eq 126, 3) := dk_153 0 126 (dk_at dksX8_seeks_4 2 rfl rfl)
theorem dX8_seeks_101 : decode cX8_seeks 101 = .ok (.iload_n 1, 1) := dk_27 (dk_at dksX8_seeks_4 5 rfl rfl)
theorem dX8_seeks_102 : decode cX8_seeks 102 = .ok (.ifCond .eq 43, 3) := dk_153 0 43 (dk_at dksX8_seeks_4 6 rfl rfl)
theorem dX8_seeks_105 : decode cX8_seeks 105 = .ok (.aload_n 0, 1) := dk_42 (dk_at dksX8_seeks_4 9 rfl rfl)
theorem dX8_seeks_106 : decode cX8_seeks 106 = .ok (.getfield 48, 3) := dk_180 0 48 (dk_at dksX8_seeks_4 10 rfl rfl)
theorem dX8_seeks_109 : decode cX8_seeks 109 = .ok (.iload_n 1, 1) := dk_27 (dk_at dksX8_seeks_4 13 rfl rfl)
theorem dX8_seeks_110 : decode cX8_seeks 110 = .ok (.iconst 1, 1) := dk_4 (dk_at dksX8_seeks_4 14 rfl rfl)
theorem dX8_seeks_111 : decode cX8_seeks 111 = .ok (.isub, 1) := dk_100 (dk_at dksX8_seeks_4 15 rfl rfl)
theorem dX8_seeks_112 : decode cX8_seeks 112 = .ok (.iaload, 1) := dk_46 (dk_at dksX8_seeks_4 16 rfl rfl)
theorem dX8_seeks_113 : decode cX8_seeks 113 = .ok (.iconst (-1), 1) := dk_2 (dk_at dksX8_seeks_4 17 rfl rfl)
theorem dX8_seeks_114 : decode cX8_seeks 114 = .ok (.if_icmp .eq 31, 3) := dk_159 0 31 (dk_at dksX8_seeks_4 18 rfl rfl)
theorem dX8_seeks_117 : decode cX8_seeks 117 = .ok (.aload_n 0, 1) := dk_42 (dk_at dksX8_seeks_4 21 rfl rfl)
theorem dX8_seeks_118 : decode cX8_seeks 118 = .ok (.getfield 44, 3) := dk_180 0 44 (dk_at dksX8_seeks_5 0 rfl rfl)
theorem dX8_seeks_121 : decode cX8_seeks 121 = .ok (.bipush 18, 2) := dk_16 18 (dk_at dksX8_seeks_5 3 rfl rfl)
theorem dX8_seeks_123 : decode cX8_seeks 123 = .ok (.aload_n 0, 1) := dk_42 (dk_at dksX8_seeks_5 5 rfl rfl)
theorem dX8_seeks_124 : decode cX8_seeks 124 = .ok (.getfield 48, 3) := dk_180 0 48 (dk_at dksX8_seeks_5 6 rfl rfl)
theorem dX8_seeks_127 : decode cX8_seeks 127 = .ok (.iload_n 1, 1) := dk_27 (dk_at dksX8_seeks_5 9 rfl rfl)
theorem dX8_seeks_128 : decode cX8_seeks 128 = .ok (.iconst 1, 1) := dk_4 (dk_at dksX8_seeks_5 10 rfl rfl)
theorem dX8_seeks_129 : decode cX8_seeks 129 = .ok (.isub, 1) := dk_100 (dk_at dksX8_seeks_5 11 rfl rfl)
theorem dX8_seeks_130 : decode cX8_seeks 130 = .ok (.iaload, 1) := dk_46 (dk_at dksX8_seeks_5 12 rfl rfl)
theorem dX8_seeks_131 : decode cX8_seeks 131 = .ok (.imul, 1) := dk_104 (dk_at dksX8_seeks_5 13 rfl rfl)
theorem dX8_seeks_132 : decode cX8_seeks 132 = .ok (.iconst 3, 1) := dk_6 (dk_at dksX8_seeks_5 14 rfl rfl)
theorem dX8_seeks_133 : decode cX8_seeks 133 = .ok (.iload 7, 2) := dk_21 7 (dk_at dksX8_seeks_5 15 rfl rfl)
theorem dX8_seeks_135 : decode cX8_seeks 135 = .ok (.imul, 1) := dk_104 (dk_at dksX8_seeks_5 17 rfl rfl)
theorem dX8_seeks_136 : decode cX8_seeks 136 = .ok (.iadd, 1) := dk_96 (dk_at dksX8_seeks_5 18 rfl rfl)
theorem dX8_seeks_137 : decode cX8_seeks 137 = .ok (.iload_n 1, 1) := dk_27 (dk_at dksX8_seeks_5 19 rfl rfl)
theorem dX8_seeks_138 : decode cX8_seeks 138 = .ok (.iadd, 1) := dk_96 (dk_at dksX8_seeks_5 20 rfl rfl)
theorem dX8_seeks_139 : decode cX8_seeks 139 = .ok (.iconst 1, 1) := dk_4 (dk_at dksX8_seeks_5 21 rfl rfl)
theorem dX8_seeks_140 : decode cX8_seeks 140 = .ok (.isub, 1) := dk_100 (dk_at dksX8_seeks_5 22 rfl rfl)
theorem dX8_seeks_141 : decode cX8_seeks 141 = .ok (.baload, 1) := dk_51 (dk_at dksX8_seeks_5 23 rfl rfl)
theorem dX8_seeks_142 : decode cX8_seeks 142 = .ok (.ifCond .ne 82, 3) := dk_154 0 82 (dk_at dksX8_seeks_6 0 rfl rfl)
theorem dX8_seeks_145 : decode cX8_seeks 145 = .ok (.aload_n 0, 1) := dk_42 (dk_at dksX8_seeks_6 3 rfl rfl)
theorem dX8_seeks_146 : decode cX8_seeks 146 = .ok (.getfield 48, 3) := dk_180 0 48 (dk_at dksX8_seeks_6 4 rfl rfl)
theorem dX8_seeks_149 : decode cX8_seeks 149 = .ok (.iload_n 1, 1) := dk_27 (dk_at dksX8_seeks_6 7 rfl rfl)
theorem dX8_seeks_150 : decode cX8_seeks 150 = .ok (.iload 7, 2) := dk_21 7 (dk_at dksX8_seeks_6 8 rfl rfl)
theorem dX8_seeks_152 : decode cX8_seeks 152 = .ok (.iastore, 1) := dk_79 (dk_at dksX8_seeks_6 10 rfl rfl)
theorem dX8_seeks_153 : decode cX8_seeks 153 = .ok (.aload_n 0, 1) := dk_42 (dk_at dksX8_seeks_6 11 rfl rfl)
theorem dX8_seeks_154 : decode cX8_seeks 154 = .ok (.getfield 38, 3) := dk_180 0 38 (dk_at dksX8_seeks_6 12 rfl rfl)
theorem dX8_seeks_157 : decode cX8_seeks 157 = .ok (.iconst 4, 1) := dk_7 (dk_at dksX8_seeks_6 15 rfl rfl)
theorem dX8_seeks_158 : decode cX8_seeks 158 = .ok (.iload 7, 2) := dk_21 7 (dk_at dksX8_seeks_6 16 rfl rfl)
theorem dX8_seeks_160 : decode cX8_seeks 160 = .ok (.imul, 1) := dk_104 (dk_at dksX8_seeks_6 18 rfl rfl)
theorem dX8_seeks_161 : decode cX8_seeks 161 = .ok (.iload_n 1, 1) := dk_27 (dk_at dksX8_seeks_6 19 rfl rfl)
theorem dX8_seeks_162 : decode cX8_seeks 162 = .ok (.iadd, 1) := dk_96 (dk_at dksX8_seeks_6 20 rfl rfl)
theorem dX8_seeks_163 : decode cX8_seeks 163 = .ok (.iaload, 1) := dk_46 (dk_at dksX8_seeks_6 21 rfl rfl)
theorem dX8_seeks_164 : decode cX8_seeks 164 = .ok (.istore 9, 2) := dk_54 9 (dk_at dksX8_seeks_6 22 rfl rfl)
theorem dX8_seeks_166 : decode cX8_seeks 166 = .ok (.aload_n 0, 1) := dk_42 (dk_at dksX8_seeks_7 0 rfl rfl)
theorem dX8_seeks_167 : decode cX8_seeks 167 = .ok (.iload_n 1, 1) := dk_27 (dk_at dksX8_seeks_7 1 rfl rfl)
theorem dX8_seeks_168 : decode cX8_seeks 168 = .ok (.iconst 1, 1) := dk_4 (dk_at dksX8_seeks_7 2 rfl rfl)
theorem dX8_seeks_169 : decode cX8_seeks 169 = .ok (.iadd, 1) := dk_96 (dk_at dksX8_seeks_7 3 rfl rfl)
theorem dX8_seeks_170 : decode cX8_seeks 170 = .ok (.iload_n 2, 1) := dk_28 (dk_at dksX8_seeks_7 4 rfl rfl)
theorem dX8_seeks_171 : decode cX8_seeks 171 = .ok (.iconst 1, 1) := dk_4 (dk_at dksX8_seeks_7 5 rfl rfl)
theorem dX8_seeks_172 : decode cX8_seeks 172 = .ok (.iload 7, 2) := dk_21 7 (dk_at dksX8_seeks_7 6 rfl rfl)
theorem dX8_seeks_174 : decode cX8_seeks 174 = .ok (.ishl, 1) := dk_120 (dk_at dksX8_seeks_7 8 rfl rfl)
theorem dX8_seeks_175 : decode cX8_seeks 175 = .ok (.ior, 1) := dk_128 (dk_at dksX8_seeks_7 9 rfl rfl)
theorem dX8_seeks_176 : decode cX8_seeks 176 = .ok (.iload_n 3, 1) := dk_29 (dk_at dksX8_seeks_7 10 rfl rfl)
theorem dX8_seeks_177 : decode cX8_seeks 177 = .ok (.iload 9, 2) := dk_21 9 (dk_at dksX8_seeks_7 11 rfl rfl)
theorem dX8_seeks_179 : decode cX8_seeks 179 = .ok (.iadd, 1) := dk_96 (dk_at dksX8_seeks_7 13 rfl rfl)
theorem dX8_seeks_180 : decode cX8_seeks 180 = .ok (.iload 4, 2) := dk_21 4 (dk_at dksX8_seeks_7 14 rfl rfl)
theorem dX8_seeks_182 : decode cX8_seeks 182 = .ok (.aload_n 0, 1) := dk_42 (dk_at dksX8_seeks_7 16 rfl rfl)
theorem dX8_seeks_183 : decode cX8_seeks 183 = .ok (.getfield 41, 3) := dk_180 0 41 (dk_at dksX8_seeks_7 17 rfl rfl)
theorem dX8_seeks_186 : decode cX8_seeks 186 = .ok (.iload 7, 2) := dk_21 7 (dk_at dksX8_seeks_7 20 rfl rfl)
theorem dX8_seeks_188 : decode cX8_seeks 188 = .ok (.iaload, 1) := dk_46 (dk_at dksX8_seeks_7 22 rfl rfl)
theorem dX8_seeks_189 : decode cX8_seeks 189 = .ok (.iadd, 1) := dk_96 (dk_at dksX8_seeks_7 23 rfl rfl)
theorem dX8_seeks_190 : decode cX8_seeks 190 = .ok (.bipush 10, 2) := dk_16 10 (dk_at dksX8_seeks_8 0 rfl rfl)
theorem dX8_seeks_192 : decode cX8_seeks 192 = .ok (.iload 5, 2) := dk_21 5 (dk_at dksX8_seeks_8 2 rfl rfl)
theorem dX8_seeks_194 : decode cX8_seeks 194 = .ok (.imul, 1) := dk_104 (dk_at dksX8_seeks_8 4 rfl rfl)
theorem dX8_seeks_195 : decode cX8_seeks 195 = .ok (.iload 7, 2) := dk_21 7 (dk_at dksX8_seeks_8 5 rfl rfl)
theorem dX8_seeks_197 : decode cX8_seeks 197 = .ok (.iadd, 1) := dk_96 (dk_at dksX8_seeks_8 7 rfl rfl)
theorem dX8_seeks_198 : decode cX8_seeks 198 = .ok (.iconst 1, 1) := dk_4 (dk_at dksX8_seeks_8 8 rfl rfl)
theorem dX8_seeks_199 : decode cX8_seeks 199 = .ok (.iadd, 1) := dk_96 (dk_at dksX8_seeks_8 9 rfl rfl)
theorem dX8_seeks_200 : decode cX8_seeks 200 = .ok (.iload 6, 2) := dk_21 6 (dk_at dksX8_seeks_8 10 rfl rfl)
theorem dX8_seeks_202 : decode cX8_seeks 202 = .ok (.ifCond .eq 18, 3) := dk_153 0 18 (dk_at dksX8_seeks_8 12 rfl rfl)
theorem dX8_seeks_205 : decode cX8_seeks 205 = .ok (.iload 9, 2) := dk_21 9 (dk_at dksX8_seeks_8 15 rfl rfl)
theorem dX8_seeks_207 : decode cX8_seeks 207 = .ok (.aload_n 0, 1) := dk_42 (dk_at dksX8_seeks_8 17 rfl rfl)
theorem dX8_seeks_208 : decode cX8_seeks 208 = .ok (.getfield 26, 3) := dk_180 0 26 (dk_at dksX8_seeks_8 18 rfl rfl)
theorem dX8_seeks_211 : decode cX8_seeks 211 = .ok (.iload_n 1, 1) := dk_27 (dk_at dksX8_seeks_8 21 rfl rfl)
theorem dX8_seeks_212 : decode cX8_seeks 212 = .ok (.iaload, 1) := dk_46 (dk_at dksX8_seeks_8 22 rfl rfl)
theorem dX8_seeks_213 : decode cX8_seeks 213 = .ok (.if_icmp .lt 7, 3) := dk_161 0 7 (dk_at dksX8_seeks_9 0 rfl rfl)
theorem dX8_seeks_216 : decode cX8_seeks 216 = .ok (.iconst 1, 1) := dk_4 (dk_at dksX8_seeks_9 3 rfl rfl)
theorem dX8_seeks_217 : decode cX8_seeks 217 = .ok (.goto 4, 3) := dk_167 0 4 (dk_at dksX8_seeks_9 4 rfl rfl)
theorem dX8_seeks_220 : decode cX8_seeks 220 = .ok (.iconst 0, 1) := dk_3 (dk_at dksX8_seeks_9 7 rfl rfl)
theorem dX8_seeks_221 : decode cX8_seeks 221 = .ok (.invokevirtual 311, 3) := dk_182 1 55 (dk_at dksX8_seeks_9 8 rfl rfl)
theorem dX8_seeks_224 : decode cX8_seeks 224 = .ok (.iinc 7 1, 3) := dk_132 7 1 (dk_at dksX8_seeks_9 11 rfl rfl)
theorem dX8_seeks_227 : decode cX8_seeks 227 = .ok (.goto (-165), 3) := dk_167 255 91 (dk_at dksX8_seeks_9 14 rfl rfl)
theorem dX8_seeks_230 : decode cX8_seeks 230 = .ok (.return_, 1) := dk_177 (dk_at dksX8_seeks_9 17 rfl rfl)
abbrev cX8_looks : ByteArray := prog_16_method_52_code
def yX8_looks : MethodName := ⟨RX8, "looks", "(IIIZ)V"⟩
def dkwX8_looks_3 : List UInt8 := [181, 1, 48, 42, 21, 5, 181, 1, 45, 177]
abbrev dktX8_looks_3 : List UInt8 := dkwX8_looks_3 ++ []
def dkwX8_looks_2 : List UInt8 := [180, 1, 42, 153, 0, 12, 21, 5, 42, 180, 1, 45, 164, 0, 19, 42, 4, 181, 1, 42, 42, 29]
abbrev dktX8_looks_2 : List UInt8 := dkwX8_looks_2 ++ dktX8_looks_3
def dkwX8_looks_1 : List UInt8 := [180, 0, 23, 164, 0, 4, 177, 42, 180, 1, 39, 4, 160, 0, 8, 28, 116, 167, 0, 4, 27, 54, 5, 42]
abbrev dktX8_looks_1 : List UInt8 := dkwX8_looks_1 ++ dktX8_looks_2
def dkwX8_looks_0 : List UInt8 := [42, 180, 1, 39, 4, 160, 0, 8, 21, 4, 153, 0, 19, 42, 180, 1, 39, 5, 160, 0, 12, 28, 42]
abbrev dktX8_looks_0 : List UInt8 := dkwX8_looks_0 ++ dktX8_looks_1
theorem dksX8_looks_0 : cX8_looks.data.toList.drop 0 = dktX8_looks_0 := by decide +kernel
theorem dksX8_looks_1 : cX8_looks.data.toList.drop 23 = dktX8_looks_1 := dk_seg dksX8_looks_0 23 rfl rfl
theorem dksX8_looks_2 : cX8_looks.data.toList.drop 47 = dktX8_looks_2 := dk_seg dksX8_looks_1 24 rfl rfl
theorem dksX8_looks_3 : cX8_looks.data.toList.drop 69 = dktX8_looks_3 := dk_seg dksX8_looks_2 22 rfl rfl
theorem dX8_looks_0 : decode cX8_looks 0 = .ok (.aload_n 0, 1) := dk_42 (dk_at dksX8_looks_0 0 rfl rfl)
theorem dX8_looks_1 : decode cX8_looks 1 = .ok (.getfield 295, 3) := dk_180 1 39 (dk_at dksX8_looks_0 1 rfl rfl)
theorem dX8_looks_4 : decode cX8_looks 4 = .ok (.iconst 1, 1) := dk_4 (dk_at dksX8_looks_0 4 rfl rfl)
theorem dX8_looks_5 : decode cX8_looks 5 = .ok (.if_icmp .ne 8, 3) := dk_160 0 8 (dk_at dksX8_looks_0 5 rfl rfl)
theorem dX8_looks_8 : decode cX8_looks 8 = .ok (.iload 4, 2) := dk_21 4 (dk_at dksX8_looks_0 8 rfl rfl)
theorem dX8_looks_10 : decode cX8_looks 10 = .ok (.ifCond .eq 19, 3) := dk_153 0 19 (dk_at dksX8_looks_0 10 rfl rfl)
theorem dX8_looks_13 : decode cX8_looks 13 = .ok (.aload_n 0, 1) := dk_42 (dk_at dksX8_looks_0 13 rfl rfl)
theorem dX8_looks_14 : decode cX8_looks 14 = .ok (.getfield 295, 3) := dk_180 1 39 (dk_at dksX8_looks_0 14 rfl rfl)
theorem dX8_looks_17 : decode cX8_looks 17 = .ok (.iconst 2, 1) := dk_5 (dk_at dksX8_looks_0 17 rfl rfl)
theorem dX8_looks_18 : decode cX8_looks 18 = .ok (.if_icmp .ne 12, 3) := dk_160 0 12 (dk_at dksX8_looks_0 18 rfl rfl)
theorem dX8_looks_21 : decode cX8_looks 21 = .ok (.iload_n 2, 1) := dk_28 (dk_at dksX8_looks_0 21 rfl rfl)
theorem dX8_looks_22 : decode cX8_looks 22 = .ok (.aload_n 0, 1) := dk_42 (dk_at dksX8_looks_0 22 rfl rfl)
theorem dX8_looks_23 : decode cX8_looks 23 = .ok (.getfield 23, 3) := dk_180 0 23 (dk_at dksX8_looks_1 0 rfl rfl)
theorem dX8_looks_26 : decode cX8_looks 26 = .ok (.if_icmp .le 4, 3) := dk_164 0 4 (dk_at dksX8_looks_1 3 rfl rfl)
theorem dX8_looks_29 : decode cX8_looks 29 = .ok (.return_, 1) := dk_177 (dk_at dksX8_looks_1 6 rfl rfl)
theorem dX8_looks_30 : decode cX8_looks 30 = .ok (.aload_n 0, 1) := dk_42 (dk_at dksX8_looks_1 7 rfl rfl)
theorem dX8_looks_31 : decode cX8_looks 31 = .ok (.getfield 295, 3) := dk_180 1 39 (dk_at dksX8_looks_1 8 rfl rfl)
theorem dX8_looks_34 : decode cX8_looks 34 = .ok (.iconst 1, 1) := dk_4 (dk_at dksX8_looks_1 11 rfl rfl)
theorem dX8_looks_35 : decode cX8_looks 35 = .ok (.if_icmp .ne 8, 3) := dk_160 0 8 (dk_at dksX8_looks_1 12 rfl rfl)
theorem dX8_looks_38 : decode cX8_looks 38 = .ok (.iload_n 2, 1) := dk_28 (dk_at dksX8_looks_1 15 rfl rfl)
theorem dX8_looks_39 : decode cX8_looks 39 = .ok (.ineg, 1) := dk_116 (dk_at dksX8_looks_1 16 rfl rfl)
theorem dX8_looks_40 : decode cX8_looks 40 = .ok (.goto 4, 3) := dk_167 0 4 (dk_at dksX8_looks_1 17 rfl rfl)
theorem dX8_looks_43 : decode cX8_looks 43 = .ok (.iload_n 1, 1) := dk_27 (dk_at dksX8_looks_1 20 rfl rfl)
theorem dX8_looks_44 : decode cX8_looks 44 = .ok (.istore 5, 2) := dk_54 5 (dk_at dksX8_looks_1 21 rfl rfl)
theorem dX8_looks_46 : decode cX8_looks 46 = .ok (.aload_n 0, 1) := dk_42 (dk_at dksX8_looks_1 23 rfl rfl)
theorem dX8_looks_47 : decode cX8_looks 47 = .ok (.getfield 298, 3) := dk_180 1 42 (dk_at dksX8_looks_2 0 rfl rfl)
theorem dX8_looks_50 : decode cX8_looks 50 = .ok (.ifCond .eq 12, 3) := dk_153 0 12 (dk_at dksX8_looks_2 3 rfl rfl)
theorem dX8_looks_53 : decode cX8_looks 53 = .ok (.iload 5, 2) := dk_21 5 (dk_at dksX8_looks_2 6 rfl rfl)
theorem dX8_looks_55 : decode cX8_looks 55 = .ok (.aload_n 0, 1) := dk_42 (dk_at dksX8_looks_2 8 rfl rfl)
theorem dX8_looks_56 : decode cX8_looks 56 = .ok (.getfield 301, 3) := dk_180 1 45 (dk_at dksX8_looks_2 9 rfl rfl)
theorem dX8_looks_59 : decode cX8_looks 59 = .ok (.if_icmp .le 19, 3) := dk_164 0 19 (dk_at dksX8_looks_2 12 rfl rfl)
theorem dX8_looks_62 : decode cX8_looks 62 = .ok (.aload_n 0, 1) := dk_42 (dk_at dksX8_looks_2 15 rfl rfl)
theorem dX8_looks_63 : decode cX8_looks 63 = .ok (.iconst 1, 1) := dk_4 (dk_at dksX8_looks_2 16 rfl rfl)
theorem dX8_looks_64 : decode cX8_looks 64 = .ok (.putfield 298, 3) := dk_181 1 42 (dk_at dksX8_looks_2 17 rfl rfl)
theorem dX8_looks_67 : decode cX8_looks 67 = .ok (.aload_n 0, 1) := dk_42 (dk_at dksX8_looks_2 20 rfl rfl)
theorem dX8_looks_68 : decode cX8_looks 68 = .ok (.iload_n 3, 1) := dk_29 (dk_at dksX8_looks_2 21 rfl rfl)
theorem dX8_looks_69 : decode cX8_looks 69 = .ok (.putfield 304, 3) := dk_181 1 48 (dk_at dksX8_looks_3 0 rfl rfl)
theorem dX8_looks_72 : decode cX8_looks 72 = .ok (.aload_n 0, 1) := dk_42 (dk_at dksX8_looks_3 3 rfl rfl)
theorem dX8_looks_73 : decode cX8_looks 73 = .ok (.iload 5, 2) := dk_21 5 (dk_at dksX8_looks_3 4 rfl rfl)
theorem dX8_looks_75 : decode cX8_looks 75 = .ok (.putfield 301, 3) := dk_181 1 45 (dk_at dksX8_looks_3 6 rfl rfl)
theorem dX8_looks_78 : decode cX8_looks 78 = .ok (.return_, 1) := dk_177 (dk_at dksX8_looks_3 9 rfl rfl)
abbrev cX8_cheapest : ByteArray := prog_16_method_56_code
def yX8_cheapest : MethodName := ⟨RX8, "cheapest", "(I)I"⟩
def dkwX8_cheapest_2 : List UInt8 := [160, 0, 11, 42, 180, 1, 45, 116, 167, 0, 7, 42, 180, 1, 45, 172]
abbrev dktX8_cheapest_2 : List UInt8 := dkwX8_cheapest_2 ++ []
def dkwX8_cheapest_1 : List UInt8 := [167, 0, 4, 5, 182, 1, 62, 27, 5, 112, 154, 0, 10, 42, 180, 1, 48, 167, 0, 20, 27, 4]
abbrev dktX8_cheapest_1 : List UInt8 := dkwX8_cheapest_1 ++ dktX8_cheapest_2
def dkwX8_cheapest_0 : List UInt8 := [27, 133, 9, 20, 0, 92, 184, 0, 88, 154, 0, 6, 16, 254, 172, 42, 27, 5, 162, 0, 7, 4]
abbrev dktX8_cheapest_0 : List UInt8 := dkwX8_cheapest_0 ++ dktX8_cheapest_1
theorem dksX8_cheapest_0 : cX8_cheapest.data.toList.drop 0 = dktX8_cheapest_0 := by decide +kernel
theorem dksX8_cheapest_1 : cX8_cheapest.data.toList.drop 22 = dktX8_cheapest_1 := dk_seg dksX8_cheapest_0 22 rfl rfl
theorem dksX8_cheapest_2 : cX8_cheapest.data.toList.drop 44 = dktX8_cheapest_2 := dk_seg dksX8_cheapest_1 22 rfl rfl
theorem dX8_cheapest_0 : decode cX8_cheapest 0 = .ok (.iload_n 1, 1) := dk_27 (dk_at dksX8_cheapest_0 0 rfl rfl)
theorem dX8_cheapest_1 : decode cX8_cheapest 1 = .ok (.i2l, 1) := dk_133 (dk_at dksX8_cheapest_0 1 rfl rfl)
theorem dX8_cheapest_2 : decode cX8_cheapest 2 = .ok (.lconst 0, 1) := dk_9 (dk_at dksX8_cheapest_0 2 rfl rfl)
theorem dX8_cheapest_3 : decode cX8_cheapest 3 = .ok (.ldc2_w 92, 3) := dk_20 0 92 (dk_at dksX8_cheapest_0 3 rfl rfl)
theorem dX8_cheapest_6 : decode cX8_cheapest 6 = .ok (.invokestatic 88, 3) := dk_184 0 88 (dk_at dksX8_cheapest_0 6 rfl rfl)
theorem dX8_cheapest_9 : decode cX8_cheapest 9 = .ok (.ifCond .ne 6, 3) := dk_154 0 6 (dk_at dksX8_cheapest_0 9 rfl rfl)
theorem dX8_cheapest_12 : decode cX8_cheapest 12 = .ok (.bipush (-2), 2) := dk_16 254 (dk_at dksX8_cheapest_0 12 rfl rfl)
theorem dX8_cheapest_14 : decode cX8_cheapest 14 = .ok (.ireturn, 1) := dk_172 (dk_at dksX8_cheapest_0 14 rfl rfl)
theorem dX8_cheapest_15 : decode cX8_cheapest 15 = .ok (.aload_n 0, 1) := dk_42 (dk_at dksX8_cheapest_0 15 rfl rfl)
theorem dX8_cheapest_16 : decode cX8_cheapest 16 = .ok (.iload_n 1, 1) := dk_27 (dk_at dksX8_cheapest_0 16 rfl rfl)
theorem dX8_cheapest_17 : decode cX8_cheapest 17 = .ok (.iconst 2, 1) := dk_5 (dk_at dksX8_cheapest_0 17 rfl rfl)
theorem dX8_cheapest_18 : decode cX8_cheapest 18 = .ok (.if_icmp .ge 7, 3) := dk_162 0 7 (dk_at dksX8_cheapest_0 18 rfl rfl)
theorem dX8_cheapest_21 : decode cX8_cheapest 21 = .ok (.iconst 1, 1) := dk_4 (dk_at dksX8_cheapest_0 21 rfl rfl)
theorem dX8_cheapest_22 : decode cX8_cheapest 22 = .ok (.goto 4, 3) := dk_167 0 4 (dk_at dksX8_cheapest_1 0 rfl rfl)
theorem dX8_cheapest_25 : decode cX8_cheapest 25 = .ok (.iconst 2, 1) := dk_5 (dk_at dksX8_cheapest_1 3 rfl rfl)
theorem dX8_cheapest_26 : decode cX8_cheapest 26 = .ok (.invokevirtual 318, 3) := dk_182 1 62 (dk_at dksX8_cheapest_1 4 rfl rfl)
theorem dX8_cheapest_29 : decode cX8_cheapest 29 = .ok (.iload_n 1, 1) := dk_27 (dk_at dksX8_cheapest_1 7 rfl rfl)
theorem dX8_cheapest_30 : decode cX8_cheapest 30 = .ok (.iconst 2, 1) := dk_5 (dk_at dksX8_cheapest_1 8 rfl rfl)
theorem dX8_cheapest_31 : decode cX8_cheapest 31 = .ok (.irem, 1) := dk_112 (dk_at dksX8_cheapest_1 9 rfl rfl)
theorem dX8_cheapest_32 : decode cX8_cheapest 32 = .ok (.ifCond .ne 10, 3) := dk_154 0 10 (dk_at dksX8_cheapest_1 10 rfl rfl)
theorem dX8_cheapest_35 : decode cX8_cheapest 35 = .ok (.aload_n 0, 1) := dk_42 (dk_at dksX8_cheapest_1 13 rfl rfl)
theorem dX8_cheapest_36 : decode cX8_cheapest 36 = .ok (.getfield 304, 3) := dk_180 1 48 (dk_at dksX8_cheapest_1 14 rfl rfl)
theorem dX8_cheapest_39 : decode cX8_cheapest 39 = .ok (.goto 20, 3) := dk_167 0 20 (dk_at dksX8_cheapest_1 17 rfl rfl)
theorem dX8_cheapest_42 : decode cX8_cheapest 42 = .ok (.iload_n 1, 1) := dk_27 (dk_at dksX8_cheapest_1 20 rfl rfl)
theorem dX8_cheapest_43 : decode cX8_cheapest 43 = .ok (.iconst 1, 1) := dk_4 (dk_at dksX8_cheapest_1 21 rfl rfl)
theorem dX8_cheapest_44 : decode cX8_cheapest 44 = .ok (.if_icmp .ne 11, 3) := dk_160 0 11 (dk_at dksX8_cheapest_2 0 rfl rfl)
theorem dX8_cheapest_47 : decode cX8_cheapest 47 = .ok (.aload_n 0, 1) := dk_42 (dk_at dksX8_cheapest_2 3 rfl rfl)
theorem dX8_cheapest_48 : decode cX8_cheapest 48 = .ok (.getfield 301, 3) := dk_180 1 45 (dk_at dksX8_cheapest_2 4 rfl rfl)
theorem dX8_cheapest_51 : decode cX8_cheapest 51 = .ok (.ineg, 1) := dk_116 (dk_at dksX8_cheapest_2 7 rfl rfl)
theorem dX8_cheapest_52 : decode cX8_cheapest 52 = .ok (.goto 7, 3) := dk_167 0 7 (dk_at dksX8_cheapest_2 8 rfl rfl)
theorem dX8_cheapest_55 : decode cX8_cheapest 55 = .ok (.aload_n 0, 1) := dk_42 (dk_at dksX8_cheapest_2 11 rfl rfl)
theorem dX8_cheapest_56 : decode cX8_cheapest 56 = .ok (.getfield 301, 3) := dk_180 1 45 (dk_at dksX8_cheapest_2 12 rfl rfl)
theorem dX8_cheapest_59 : decode cX8_cheapest 59 = .ok (.ireturn, 1) := dk_172 (dk_at dksX8_cheapest_2 15 rfl rfl)
abbrev cX8_turnOut : ByteArray := prog_16_method_57_code
def yX8_turnOut : MethodName := ⟨RX8, "turnOut", "(I)I"⟩
def dkwX8_turnOut_4 : List UInt8 := [154, 0, 7, 28, 167, 0, 4, 29, 172]
abbrev dktX8_turnOut_4 : List UInt8 := dkwX8_turnOut_4 ++ []
def dkwX8_turnOut_3 : List UInt8 := [159, 0, 15, 21, 6, 29, 162, 0, 9, 21, 5, 61, 21, 6, 62, 132, 4, 1, 167, 255, 194, 27]
abbrev dktX8_turnOut_3 : List UInt8 := dkwX8_turnOut_3 ++ dktX8_turnOut_4
def dkwX8_turnOut_2 : List UInt8 := [79, 42, 182, 1, 36, 184, 1, 66, 54, 6, 42, 180, 0, 29, 21, 4, 21, 5, 79, 21, 5, 2]
abbrev dktX8_turnOut_2 : List UInt8 := dkwX8_turnOut_2 ++ dktX8_turnOut_3
def dkwX8_turnOut_1 : List UInt8 := [54, 4, 21, 4, 7, 162, 0, 62, 42, 180, 0, 29, 21, 4, 46, 54, 5, 42, 180, 0, 29, 21, 4, 2]
abbrev dktX8_turnOut_1 : List UInt8 := dkwX8_turnOut_1 ++ dktX8_turnOut_2
def dkwX8_turnOut_0 : List UInt8 := [27, 133, 9, 10, 184, 0, 88, 154, 0, 6, 16, 254, 172, 2, 61, 42, 182, 1, 36, 184, 1, 66, 62, 3]
abbrev dktX8_turnOut_0 : List UInt8 := dkwX8_turnOut_0 ++ dktX8_turnOut_1
theorem dksX8_turnOut_0 : cX8_turnOut.data.toList.drop 0 = dktX8_turnOut_0 := by decide +kernel
theorem dksX8_turnOut_1 : cX8_turnOut.data.toList.drop 24 = dktX8_turnOut_1 := dk_seg dksX8_turnOut_0 24 rfl rfl
theorem dksX8_turnOut_2 : cX8_turnOut.data.toList.drop 48 = dktX8_turnOut_2 := dk_seg dksX8_turnOut_1 24 rfl rfl
theorem dksX8_turnOut_3 : cX8_turnOut.data.toList.drop 70 = dktX8_turnOut_3 := dk_seg dksX8_turnOut_2 22 rfl rfl
theorem dksX8_turnOut_4 : cX8_turnOut.data.toList.drop 92 = dktX8_turnOut_4 := dk_seg dksX8_turnOut_3 22 rfl rfl
theorem dX8_turnOut_0 : decode cX8_turnOut 0 = .ok (.iload_n 1, 1) := dk_27 (dk_at dksX8_turnOut_0 0 rfl rfl)
theorem dX8_turnOut_1 : decode cX8_turnOut 1 = .ok (.i2l, 1) := dk_133 (dk_at dksX8_turnOut_0 1 rfl rfl)
theorem dX8_turnOut_2 : decode cX8_turnOut 2 = .ok (.lconst 0, 1) := dk_9 (dk_at dksX8_turnOut_0 2 rfl rfl)
theorem dX8_turnOut_3 : decode cX8_turnOut 3 = .ok (.lconst 1, 1) := dk_10 (dk_at dksX8_turnOut_0 3 rfl rfl)
theorem dX8_turnOut_4 : decode cX8_turnOut 4 = .ok (.invokestatic 88, 3) := dk_184 0 88 (dk_at dksX8_turnOut_0 4 rfl rfl)
theorem dX8_turnOut_7 : decode cX8_turnOut 7 = .ok (.ifCond .ne 6, 3) := dk_154 0 6 (dk_at dksX8_turnOut_0 7 rfl rfl)
theorem dX8_turnOut_10 : decode cX8_turnOut 10 = .ok (.bipush (-2), 2) := dk_16 254 (dk_at dksX8_turnOut_0 10 rfl rfl)
theorem dX8_turnOut_12 : decode cX8_turnOut 12 = .ok (.ireturn, 1) := dk_172 (dk_at dksX8_turnOut_0 12 rfl rfl)
theorem dX8_turnOut_13 : decode cX8_turnOut 13 = .ok (.iconst (-1), 1) := dk_2 (dk_at dksX8_turnOut_0 13 rfl rfl)
theorem dX8_turnOut_14 : decode cX8_turnOut 14 = .ok (.istore_n 2, 1) := dk_61 (dk_at dksX8_turnOut_0 14 rfl rfl)
theorem dX8_turnOut_15 : decode cX8_turnOut 15 = .ok (.aload_n 0, 1) := dk_42 (dk_at dksX8_turnOut_0 15 rfl rfl)
theorem dX8_turnOut_16 : decode cX8_turnOut 16 = .ok (.invokevirtual 292, 3) := dk_182 1 36 (dk_at dksX8_turnOut_0 16 rfl rfl)
theorem dX8_turnOut_19 : decode cX8_turnOut 19 = .ok (.invokestatic 322, 3) := dk_184 1 66 (dk_at dksX8_turnOut_0 19 rfl rfl)
theorem dX8_turnOut_22 : decode cX8_turnOut 22 = .ok (.istore_n 3, 1) := dk_62 (dk_at dksX8_turnOut_0 22 rfl rfl)
theorem dX8_turnOut_23 : decode cX8_turnOut 23 = .ok (.iconst 0, 1) := dk_3 (dk_at dksX8_turnOut_0 23 rfl rfl)
theorem dX8_turnOut_24 : decode cX8_turnOut 24 = .ok (.istore 4, 2) := dk_54 4 (dk_at dksX8_turnOut_1 0 rfl rfl)
theorem dX8_turnOut_26 : decode cX8_turnOut 26 = .ok (.iload 4, 2) := dk_21 4 (dk_at dksX8_turnOut_1 2 rfl rfl)
theorem dX8_turnOut_28 : decode cX8_turnOut 28 = .ok (.iconst 4, 1) := dk_7 (dk_at dksX8_turnOut_1 4 rfl rfl)
theorem dX8_turnOut_29 : decode cX8_turnOut 29 = .ok (.if_icmp .ge 62, 3) := dk_162 0 62 (dk_at dksX8_turnOut_1 5 rfl rfl)
theorem dX8_turnOut_32 : decode cX8_turnOut 32 = .ok (.aload_n 0, 1) := dk_42 (dk_at dksX8_turnOut_1 8 rfl rfl)
theorem dX8_turnOut_33 : decode cX8_turnOut 33 = .ok (.getfield 29, 3) := dk_180 0 29 (dk_at dksX8_turnOut_1 9 rfl rfl)
theorem dX8_turnOut_36 : decode cX8_turnOut 36 = .ok (.iload 4, 2) := dk_21 4 (dk_at dksX8_turnOut_1 12 rfl rfl)
theorem dX8_turnOut_38 : decode cX8_turnOut 38 = .ok (.iaload, 1) := dk_46 (dk_at dksX8_turnOut_1 14 rfl rfl)
theorem dX8_turnOut_39 : decode cX8_turnOut 39 = .ok (.istore 5, 2) := dk_54 5 (dk_at dksX8_turnOut_1 15 rfl rfl)
theorem dX8_turnOut_41 : decode cX8_turnOut 41 = .ok (.aload_n 0, 1) := dk_42 (dk_at dksX8_turnOut_1 17 rfl rfl)
theorem dX8_turnOut_42 : decode cX8_turnOut 42 = .ok (.getfield 29, 3) := dk_180 0 29 (dk_at dksX8_turnOut_1 18 rfl rfl)
theorem dX8_turnOut_45 : decode cX8_turnOut 45 = .ok (.iload 4, 2) := dk_21 4 (dk_at dksX8_turnOut_1 21 rfl rfl)
theorem dX8_turnOut_47 : decode cX8_turnOut 47 = .ok (.iconst (-1), 1) := dk_2 (dk_at dksX8_turnOut_1 23 rfl rfl)
theorem dX8_turnOut_48 : decode cX8_turnOut 48 = .ok (.iastore, 1) := dk_79 (dk_at dksX8_turnOut_2 0 rfl rfl)
theorem dX8_turnOut_49 : decode cX8_turnOut 49 = .ok (.aload_n 0, 1) := dk_42 (dk_at dksX8_turnOut_2 1 rfl rfl)
theorem dX8_turnOut_50 : decode cX8_turnOut 50 = .ok (.invokevirtual 292, 3) := dk_182 1 36 (dk_at dksX8_turnOut_2 2 rfl rfl)
theorem dX8_turnOut_53 : decode cX8_turnOut 53 = .ok (.invokestatic 322, 3) := dk_184 1 66 (dk_at dksX8_turnOut_2 5 rfl rfl)
theorem dX8_turnOut_56 : decode cX8_turnOut 56 = .ok (.istore 6, 2) := dk_54 6 (dk_at dksX8_turnOut_2 8 rfl rfl)
theorem dX8_turnOut_58 : decode cX8_turnOut 58 = .ok (.aload_n 0, 1) := dk_42 (dk_at dksX8_turnOut_2 10 rfl rfl)
theorem dX8_turnOut_59 : decode cX8_turnOut 59 = .ok (.getfield 29, 3) := dk_180 0 29 (dk_at dksX8_turnOut_2 11 rfl rfl)
theorem dX8_turnOut_62 : decode cX8_turnOut 62 = .ok (.iload 4, 2) := dk_21 4 (dk_at dksX8_turnOut_2 14 rfl rfl)
theorem dX8_turnOut_64 : decode cX8_turnOut 64 = .ok (.iload 5, 2) := dk_21 5 (dk_at dksX8_turnOut_2 16 rfl rfl)
theorem dX8_turnOut_66 : decode cX8_turnOut 66 = .ok (.iastore, 1) := dk_79 (dk_at dksX8_turnOut_2 18 rfl rfl)
theorem dX8_turnOut_67 : decode cX8_turnOut 67 = .ok (.iload 5, 2) := dk_21 5 (dk_at dksX8_turnOut_2 19 rfl rfl)
theorem dX8_turnOut_69 : decode cX8_turnOut 69 = .ok (.iconst (-1), 1) := dk_2 (dk_at dksX8_turnOut_2 21 rfl rfl)
theorem dX8_turnOut_70 : decode cX8_turnOut 70 = .ok (.if_icmp .eq 15, 3) := dk_159 0 15 (dk_at dksX8_turnOut_3 0 rfl rfl)
theorem dX8_turnOut_73 : decode cX8_turnOut 73 = .ok (.iload 6, 2) := dk_21 6 (dk_at dksX8_turnOut_3 3 rfl rfl)
theorem dX8_turnOut_75 : decode cX8_turnOut 75 = .ok (.iload_n 3, 1) := dk_29 (dk_at dksX8_turnOut_3 5 rfl rfl)
theorem dX8_turnOut_76 : decode cX8_turnOut 76 = .ok (.if_icmp .ge 9, 3) := dk_162 0 9 (dk_at dksX8_turnOut_3 6 rfl rfl)
theorem dX8_turnOut_79 : decode cX8_turnOut 79 = .ok (.iload 5, 2) := dk_21 5 (dk_at dksX8_turnOut_3 9 rfl rfl)
theorem dX8_turnOut_81 : decode cX8_turnOut 81 = .ok (.istore_n 2, 1) := dk_61 (dk_at dksX8_turnOut_3 11 rfl rfl)
theorem dX8_turnOut_82 : decode cX8_turnOut 82 = .ok (.iload 6, 2) := dk_21 6 (dk_at dksX8_turnOut_3 12 rfl rfl)
theorem dX8_turnOut_84 : decode cX8_turnOut 84 = .ok (.istore_n 3, 1) := dk_62 (dk_at dksX8_turnOut_3 14 rfl rfl)
theorem dX8_turnOut_85 : decode cX8_turnOut 85 = .ok (.iinc 4 1, 3) := dk_132 4 1 (dk_at dksX8_turnOut_3 15 rfl rfl)
theorem dX8_turnOut_88 : decode cX8_turnOut 88 = .ok (.goto (-62), 3) := dk_167 255 194 (dk_at dksX8_turnOut_3 18 rfl rfl)
theorem dX8_turnOut_91 : decode cX8_turnOut 91 = .ok (.iload_n 1, 1) := dk_27 (dk_at dksX8_turnOut_3 21 rfl rfl)
theorem dX8_turnOut_92 : decode cX8_turnOut 92 = .ok (.ifCond .ne 7, 3) := dk_154 0 7 (dk_at dksX8_turnOut_4 0 rfl rfl)
theorem dX8_turnOut_95 : decode cX8_turnOut 95 = .ok (.iload_n 2, 1) := dk_28 (dk_at dksX8_turnOut_4 3 rfl rfl)
theorem dX8_turnOut_96 : decode cX8_turnOut 96 = .ok (.goto 4, 3) := dk_167 0 4 (dk_at dksX8_turnOut_4 4 rfl rfl)
theorem dX8_turnOut_99 : decode cX8_turnOut 99 = .ok (.iload_n 3, 1) := dk_29 (dk_at dksX8_turnOut_4 7 rfl rfl)
theorem dX8_turnOut_100 : decode cX8_turnOut 100 = .ok (.ireturn, 1) := dk_172 (dk_at dksX8_turnOut_4 8 rfl rfl)
abbrev cX8_bitsOf : ByteArray := prog_16_method_48_code
def yX8_bitsOf : MethodName := ⟨RX8, "bitsOf", "(I)I"⟩
def dkwX8_bitsOf_0 : List UInt8 := [3, 60, 26, 61, 28, 153, 0, 15, 132, 1, 1, 28, 28, 4, 100, 126, 61, 167, 255, 243, 27, 172]
abbrev dktX8_bitsOf_0 : List UInt8 := dkwX8_bitsOf_0 ++ []
theorem dksX8_bitsOf_0 : cX8_bitsOf.data.toList.drop 0 = dktX8_bitsOf_0 := by decide +kernel
theorem dX8_bitsOf_0 : decode cX8_bitsOf 0 = .ok (.iconst 0, 1) := dk_3 (dk_at dksX8_bitsOf_0 0 rfl rfl)
theorem dX8_bitsOf_1 : decode cX8_bitsOf 1 = .ok (.istore_n 1, 1) := dk_60 (dk_at dksX8_bitsOf_0 1 rfl rfl)
theorem dX8_bitsOf_2 : decode cX8_bitsOf 2 = .ok (.iload_n 0, 1) := dk_26 (dk_at dksX8_bitsOf_0 2 rfl rfl)
theorem dX8_bitsOf_3 : decode cX8_bitsOf 3 = .ok (.istore_n 2, 1) := dk_61 (dk_at dksX8_bitsOf_0 3 rfl rfl)
theorem dX8_bitsOf_4 : decode cX8_bitsOf 4 = .ok (.iload_n 2, 1) := dk_28 (dk_at dksX8_bitsOf_0 4 rfl rfl)
theorem dX8_bitsOf_5 : decode cX8_bitsOf 5 = .ok (.ifCond .eq 15, 3) := dk_153 0 15 (dk_at dksX8_bitsOf_0 5 rfl rfl)
theorem dX8_bitsOf_8 : decode cX8_bitsOf 8 = .ok (.iinc 1 1, 3) := dk_132 1 1 (dk_at dksX8_bitsOf_0 8 rfl rfl)
theorem dX8_bitsOf_11 : decode cX8_bitsOf 11 = .ok (.iload_n 2, 1) := dk_28 (dk_at dksX8_bitsOf_0 11 rfl rfl)
theorem dX8_bitsOf_12 : decode cX8_bitsOf 12 = .ok (.iload_n 2, 1) := dk_28 (dk_at dksX8_bitsOf_0 12 rfl rfl)
theorem dX8_bitsOf_13 : decode cX8_bitsOf 13 = .ok (.iconst 1, 1) := dk_4 (dk_at dksX8_bitsOf_0 13 rfl rfl)
theorem dX8_bitsOf_14 : decode cX8_bitsOf 14 = .ok (.isub, 1) := dk_100 (dk_at dksX8_bitsOf_0 14 rfl rfl)
theorem dX8_bitsOf_15 : decode cX8_bitsOf 15 = .ok (.iand, 1) := dk_126 (dk_at dksX8_bitsOf_0 15 rfl rfl)
theorem dX8_bitsOf_16 : decode cX8_bitsOf 16 = .ok (.istore_n 2, 1) := dk_61 (dk_at dksX8_bitsOf_0 16 rfl rfl)
theorem dX8_bitsOf_17 : decode cX8_bitsOf 17 = .ok (.goto (-13), 3) := dk_167 255 243 (dk_at dksX8_bitsOf_0 17 rfl rfl)
theorem dX8_bitsOf_20 : decode cX8_bitsOf 20 = .ok (.iload_n 1, 1) := dk_27 (dk_at dksX8_bitsOf_0 20 rfl rfl)
theorem dX8_bitsOf_21 : decode cX8_bitsOf 21 = .ok (.ireturn, 1) := dk_172 (dk_at dksX8_bitsOf_0 21 rfl rfl)
abbrev cX8_swap : ByteArray := prog_16_method_59_code
def yX8_swap : MethodName := ⟨RX8, "swap", "(I)I"⟩
def dkwX8_swap_5 : List UInt8 := [54, 4, 132, 6, 1, 167, 255, 182, 132, 5, 1, 167, 255, 164, 27, 154, 0, 7, 28, 167, 0, 4, 29, 172]
abbrev dktX8_swap_5 : List UInt8 := dkwX8_swap_5 ++ []
def dkwX8_swap_4 : List UInt8 := [21, 7, 29, 163, 0, 8, 21, 4, 153, 0, 18, 16, 10, 21, 5, 104, 21, 6, 96, 61, 21, 7, 62, 3]
abbrev dktX8_swap_4 : List UInt8 := dkwX8_swap_4 ++ dktX8_swap_5
def dkwX8_swap_3 : List UInt8 := [182, 1, 33, 167, 0, 4, 2, 54, 7, 42, 21, 5, 21, 6, 182, 1, 69, 21, 7, 2, 159, 0, 29]
abbrev dktX8_swap_3 : List UInt8 := dkwX8_swap_3 ++ dktX8_swap_4
def dkwX8_swap_2 : List UInt8 := [54, 6, 21, 6, 7, 162, 0, 74, 42, 21, 5, 21, 6, 182, 1, 69, 42, 182, 1, 36, 154, 0, 10, 42]
abbrev dktX8_swap_2 : List UInt8 := dkwX8_swap_2 ++ dktX8_swap_3
def dkwX8_swap_1 : List UInt8 := [153, 0, 7, 4, 167, 0, 4, 3, 54, 4, 3, 54, 5, 21, 5, 7, 162, 0, 92, 21, 5, 4, 96]
abbrev dktX8_swap_1 : List UInt8 := dkwX8_swap_1 ++ dktX8_swap_2
def dkwX8_swap_0 : List UInt8 := [27, 133, 9, 10, 184, 0, 88, 154, 0, 6, 16, 254, 172, 2, 61, 42, 182, 1, 33, 62, 42, 182, 1, 36]
abbrev dktX8_swap_0 : List UInt8 := dkwX8_swap_0 ++ dktX8_swap_1
theorem dksX8_swap_0 : cX8_swap.data.toList.drop 0 = dktX8_swap_0 := by decide +kernel
theorem dksX8_swap_1 : cX8_swap.data.toList.drop 24 = dktX8_swap_1 := dk_seg dksX8_swap_0 24 rfl rfl
theorem dksX8_swap_2 : cX8_swap.data.toList.drop 47 = dktX8_swap_2 := dk_seg dksX8_swap_1 23 rfl rfl
theorem dksX8_swap_3 : cX8_swap.data.toList.drop 71 = dktX8_swap_3 := dk_seg dksX8_swap_2 24 rfl rfl
theorem dksX8_swap_4 : cX8_swap.data.toList.drop 94 = dktX8_swap_4 := dk_seg dksX8_swap_3 23 rfl rfl
theorem dksX8_swap_5 : cX8_swap.data.toList.drop 118 = dktX8_swap_5 := dk_seg dksX8_swap_4 24 rfl rfl
theorem dX8_swap_0 : decode cX8_swap 0 = .ok (.iload_n 1, 1) := dk_27 (dk_at dksX8_swap_0 0 rfl rfl)
theorem dX8_swap_1 : decode cX8_swap 1 = .ok (.i2l, 1) := dk_133 (dk_at dksX8_swap_0 1 rfl rfl)
theorem dX8_swap_2 : decode cX8_swap 2 = .ok (.lconst 0, 1) := dk_9 (dk_at dksX8_swap_0 2 rfl rfl)
theorem dX8_swap_3 : decode cX8_swap 3 = .ok (.lconst 1, 1) := dk_10 (dk_at dksX8_swap_0 3 rfl rfl)
theorem dX8_swap_4 : decode cX8_swap 4 = .ok (.invokestatic 88, 3) := dk_184 0 88 (dk_at dksX8_swap_0 4 rfl rfl)
theorem dX8_swap_7 : decode cX8_swap 7 = .ok (.ifCond .ne 6, 3) := dk_154 0 6 (dk_at dksX8_swap_0 7 rfl rfl)
theorem dX8_swap_10 : decode cX8_swap 10 = .ok (.bipush (-2), 2) := dk_16 254 (dk_at dksX8_swap_0 10 rfl rfl)
theorem dX8_swap_12 : decode cX8_swap 12 = .ok (.ireturn, 1) := dk_172 (dk_at dksX8_swap_0 12 rfl rfl)
theorem dX8_swap_13 : decode cX8_swap 13 = .ok (.iconst (-1), 1) := dk_2 (dk_at dksX8_swap_0 13 rfl rfl)
theorem dX8_swap_14 : decode cX8_swap 14 = .ok (.istore_n 2, 1) := dk_61 (dk_at dksX8_swap_0 14 rfl rfl)
theorem dX8_swap_15 : decode cX8_swap 15 = .ok (.aload_n 0, 1) := dk_42 (dk_at dksX8_swap_0 15 rfl rfl)
theorem dX8_swap_16 : decode cX8_swap 16 = .ok (.invokevirtual 289, 3) := dk_182 1 33 (dk_at dksX8_swap_0 16 rfl rfl)
theorem dX8_swap_19 : decode cX8_swap 19 = .ok (.istore_n 3, 1) := dk_62 (dk_at dksX8_swap_0 19 rfl rfl)
theorem dX8_swap_20 : decode cX8_swap 20 = .ok (.aload_n 0, 1) := dk_42 (dk_at dksX8_swap_0 20 rfl rfl)
theorem dX8_swap_21 : decode cX8_swap 21 = .ok (.invokevirtual 292, 3) := dk_182 1 36 (dk_at dksX8_swap_0 21 rfl rfl)
theorem dX8_swap_24 : decode cX8_swap 24 = .ok (.ifCond .eq 7, 3) := dk_153 0 7 (dk_at dksX8_swap_1 0 rfl rfl)
theorem dX8_swap_27 : decode cX8_swap 27 = .ok (.iconst 1, 1) := dk_4 (dk_at dksX8_swap_1 3 rfl rfl)
theorem dX8_swap_28 : decode cX8_swap 28 = .ok (.goto 4, 3) := dk_167 0 4 (dk_at dksX8_swap_1 4 rfl rfl)
theorem dX8_swap_31 : decode cX8_swap 31 = .ok (.iconst 0, 1) := dk_3 (dk_at dksX8_swap_1 7 rfl rfl)
theorem dX8_swap_32 : decode cX8_swap 32 = .ok (.istore 4, 2) := dk_54 4 (dk_at dksX8_swap_1 8 rfl rfl)
theorem dX8_swap_34 : decode cX8_swap 34 = .ok (.iconst 0, 1) := dk_3 (dk_at dksX8_swap_1 10 rfl rfl)
theorem dX8_swap_35 : decode cX8_swap 35 = .ok (.istore 5, 2) := dk_54 5 (dk_at dksX8_swap_1 11 rfl rfl)
theorem dX8_swap_37 : decode cX8_swap 37 = .ok (.iload 5, 2) := dk_21 5 (dk_at dksX8_swap_1 13 rfl rfl)
theorem dX8_swap_39 : decode cX8_swap 39 = .ok (.iconst 4, 1) := dk_7 (dk_at dksX8_swap_1 15 rfl rfl)
theorem dX8_swap_40 : decode cX8_swap 40 = .ok (.if_icmp .ge 92, 3) := dk_162 0 92 (dk_at dksX8_swap_1 16 rfl rfl)
theorem dX8_swap_43 : decode cX8_swap 43 = .ok (.iload 5, 2) := dk_21 5 (dk_at dksX8_swap_1 19 rfl rfl)
theorem dX8_swap_45 : decode cX8_swap 45 = .ok (.iconst 1, 1) := dk_4 (dk_at dksX8_swap_1 21 rfl rfl)
theorem dX8_swap_46 : decode cX8_swap 46 = .ok (.iadd, 1) := dk_96 (dk_at dksX8_swap_1 22 rfl rfl)
theorem dX8_swap_47 : decode cX8_swap 47 = .ok (.istore 6, 2) := dk_54 6 (dk_at dksX8_swap_2 0 rfl rfl)
theorem dX8_swap_49 : decode cX8_swap 49 = .ok (.iload 6, 2) := dk_21 6 (dk_at dksX8_swap_2 2 rfl rfl)
theorem dX8_swap_51 : decode cX8_swap 51 = .ok (.iconst 4, 1) := dk_7 (dk_at dksX8_swap_2 4 rfl rfl)
theorem dX8_swap_52 : decode cX8_swap 52 = .ok (.if_icmp .ge 74, 3) := dk_162 0 74 (dk_at dksX8_swap_2 5 rfl rfl)
theorem dX8_swap_55 : decode cX8_swap 55 = .ok (.aload_n 0, 1) := dk_42 (dk_at dksX8_swap_2 8 rfl rfl)
theorem dX8_swap_56 : decode cX8_swap 56 = .ok (.iload 5, 2) := dk_21 5 (dk_at dksX8_swap_2 9 rfl rfl)
theorem dX8_swap_58 : decode cX8_swap 58 = .ok (.iload 6, 2) := dk_21 6 (dk_at dksX8_swap_2 11 rfl rfl)
theorem dX8_swap_60 : decode cX8_swap 60 = .ok (.invokevirtual 325, 3) := dk_182 1 69 (dk_at dksX8_swap_2 13 rfl rfl)
theorem dX8_swap_63 : decode cX8_swap 63 = .ok (.aload_n 0, 1) := dk_42 (dk_at dksX8_swap_2 16 rfl rfl)
theorem dX8_swap_64 : decode cX8_swap 64 = .ok (.invokevirtual 292, 3) := dk_182 1 36 (dk_at dksX8_swap_2 17 rfl rfl)
theorem dX8_swap_67 : decode cX8_swap 67 = .ok (.ifCond .ne 10, 3) := dk_154 0 10 (dk_at dksX8_swap_2 20 rfl rfl)
theorem dX8_swap_70 : decode cX8_swap 70 = .ok (.aload_n 0, 1) := dk_42 (dk_at dksX8_swap_2 23 rfl rfl)
theorem dX8_swap_71 : decode cX8_swap 71 = .ok (.invokevirtual 289, 3) := dk_182 1 33 (dk_at dksX8_swap_3 0 rfl rfl)
theorem dX8_swap_74 : decode cX8_swap 74 = .ok (.goto 4, 3) := dk_167 0 4 (dk_at dksX8_swap_3 3 rfl rfl)
theorem dX8_swap_77 : decode cX8_swap 77 = .ok (.iconst (-1), 1) := dk_2 (dk_at dksX8_swap_3 6 rfl rfl)
theorem dX8_swap_78 : decode cX8_swap 78 = .ok (.istore 7, 2) := dk_54 7 (dk_at dksX8_swap_3 7 rfl rfl)
theorem dX8_swap_80 : decode cX8_swap 80 = .ok (.aload_n 0, 1) := dk_42 (dk_at dksX8_swap_3 9 rfl rfl)
theorem dX8_swap_81 : decode cX8_swap 81 = .ok (.iload 5, 2) := dk_21 5 (dk_at dksX8_swap_3 10 rfl rfl)
theorem dX8_swap_83 : decode cX8_swap 83 = .ok (.iload 6, 2) := dk_21 6 (dk_at dksX8_swap_3 12 rfl rfl)
theorem dX8_swap_85 : decode cX8_swap 85 = .ok (.invokevirtual 325, 3) := dk_182 1 69 (dk_at dksX8_swap_3 14 rfl rfl)
theorem dX8_swap_88 : decode cX8_swap 88 = .ok (.iload 7, 2) := dk_21 7 (dk_at dksX8_swap_3 17 rfl rfl)
theorem dX8_swap_90 : decode cX8_swap 90 = .ok (.iconst (-1), 1) := dk_2 (dk_at dksX8_swap_3 19 rfl rfl)
theorem dX8_swap_91 : decode cX8_swap 91 = .ok (.if_icmp .eq 29, 3) := dk_159 0 29 (dk_at dksX8_swap_3 20 rfl rfl)
theorem dX8_swap_94 : decode cX8_swap 94 = .ok (.iload 7, 2) := dk_21 7 (dk_at dksX8_swap_4 0 rfl rfl)
theorem dX8_swap_96 : decode cX8_swap 96 = .ok (.iload_n 3, 1) := dk_29 (dk_at dksX8_swap_4 2 rfl rfl)
theorem dX8_swap_97 : decode cX8_swap 97 = .ok (.if_icmp .gt 8, 3) := dk_163 0 8 (dk_at dksX8_swap_4 3 rfl rfl)
theorem dX8_swap_100 : decode cX8_swap 100 = .ok (.iload 4, 2) := dk_21 4 (dk_at dksX8_swap_4 6 rfl rfl)
theorem dX8_swap_102 : decode cX8_swap 102 = .ok (.ifCond .eq 18, 3) := dk_153 0 18 (dk_at dksX8_swap_4 8 rfl rfl)
theorem dX8_swap_105 : decode cX8_swap 105 = .ok (.bipush 10, 2) := dk_16 10 (dk_at dksX8_swap_4 11 rfl rfl)
theorem dX8_swap_107 : decode cX8_swap 107 = .ok (.iload 5, 2) := dk_21 5 (dk_at dksX8_swap_4 13 rfl rfl)
theorem dX8_swap_109 : decode cX8_swap 109 = .ok (.imul, 1) := dk_104 (dk_at dksX8_swap_4 15 rfl rfl)
theorem dX8_swap_110 : decode cX8_swap 110 = .ok (.iload 6, 2) := dk_21 6 (dk_at dksX8_swap_4 16 rfl rfl)
theorem dX8_swap_112 : decode cX8_swap 112 = .ok (.iadd, 1) := dk_96 (dk_at dksX8_swap_4 18 rfl rfl)
theorem dX8_swap_113 : decode cX8_swap 113 = .ok (.istore_n 2, 1) := dk_61 (dk_at dksX8_swap_4 19 rfl rfl)
theorem dX8_swap_114 : decode cX8_swap 114 = .ok (.iload 7, 2) := dk_21 7 (dk_at dksX8_swap_4 20 rfl rfl)
theorem dX8_swap_116 : decode cX8_swap 116 = .ok (.istore_n 3, 1) := dk_62 (dk_at dksX8_swap_4 22 rfl rfl)
theorem dX8_swap_117 : decode cX8_swap 117 = .ok (.iconst 0, 1) := dk_3 (dk_at dksX8_swap_4 23 rfl rfl)
theorem dX8_swap_118 : decode cX8_swap 118 = .ok (.istore 4, 2) := dk_54 4 (dk_at dksX8_swap_5 0 rfl rfl)
theorem dX8_swap_120 : decode cX8_swap 120 = .ok (.iinc 6 1, 3) := dk_132 6 1 (dk_at dksX8_swap_5 2 rfl rfl)
theorem dX8_swap_123 : decode cX8_swap 123 = .ok (.goto (-74), 3) := dk_167 255 182 (dk_at dksX8_swap_5 5 rfl rfl)
theorem dX8_swap_126 : decode cX8_swap 126 = .ok (.iinc 5 1, 3) := dk_132 5 1 (dk_at dksX8_swap_5 8 rfl rfl)
theorem dX8_swap_129 : decode cX8_swap 129 = .ok (.goto (-92), 3) := dk_167 255 164 (dk_at dksX8_swap_5 11 rfl rfl)
theorem dX8_swap_132 : decode cX8_swap 132 = .ok (.iload_n 1, 1) := dk_27 (dk_at dksX8_swap_5 14 rfl rfl)
theorem dX8_swap_133 : decode cX8_swap 133 = .ok (.ifCond .ne 7, 3) := dk_154 0 7 (dk_at dksX8_swap_5 15 rfl rfl)
theorem dX8_swap_136 : decode cX8_swap 136 = .ok (.iload_n 2, 1) := dk_28 (dk_at dksX8_swap_5 18 rfl rfl)
theorem dX8_swap_137 : decode cX8_swap 137 = .ok (.goto 4, 3) := dk_167 0 4 (dk_at dksX8_swap_5 19 rfl rfl)
theorem dX8_swap_140 : decode cX8_swap 140 = .ok (.iload_n 3, 1) := dk_29 (dk_at dksX8_swap_5 22 rfl rfl)
theorem dX8_swap_141 : decode cX8_swap 141 = .ok (.ireturn, 1) := dk_172 (dk_at dksX8_swap_5 23 rfl rfl)
abbrev cX8_swaps : ByteArray := prog_16_method_58_code
def yX8_swaps : MethodName := ⟨RX8, "swaps", "(II)V"⟩
def dkwX8_swaps_1 : List UInt8 := [29, 79, 177]
abbrev dktX8_swaps_1 : List UInt8 := dkwX8_swaps_1 ++ []
def dkwX8_swaps_0 : List UInt8 := [42, 180, 0, 29, 27, 46, 62, 42, 180, 0, 29, 27, 42, 180, 0, 29, 28, 46, 79, 42, 180, 0, 29, 28]
abbrev dktX8_swaps_0 : List UInt8 := dkwX8_swaps_0 ++ dktX8_swaps_1
theorem dksX8_swaps_0 : cX8_swaps.data.toList.drop 0 = dktX8_swaps_0 := by decide +kernel
theorem dksX8_swaps_1 : cX8_swaps.data.toList.drop 24 = dktX8_swaps_1 := dk_seg dksX8_swaps_0 24 rfl rfl
theorem dX8_swaps_0 : decode cX8_swaps 0 = .ok (.aload_n 0, 1) := dk_42 (dk_at dksX8_swaps_0 0 rfl rfl)
theorem dX8_swaps_1 : decode cX8_swaps 1 = .ok (.getfield 29, 3) := dk_180 0 29 (dk_at dksX8_swaps_0 1 rfl rfl)
theorem dX8_swaps_4 : decode cX8_swaps 4 = .ok (.iload_n 1, 1) := dk_27 (dk_at dksX8_swaps_0 4 rfl rfl)
theorem dX8_swaps_5 : decode cX8_swaps 5 = .ok (.iaload, 1) := dk_46 (dk_at dksX8_swaps_0 5 rfl rfl)
theorem dX8_swaps_6 : decode cX8_swaps 6 = .ok (.istore_n 3, 1) := dk_62 (dk_at dksX8_swaps_0 6 rfl rfl)
theorem dX8_swaps_7 : decode cX8_swaps 7 = .ok (.aload_n 0, 1) := dk_42 (dk_at dksX8_swaps_0 7 rfl rfl)
theorem dX8_swaps_8 : decode cX8_swaps 8 = .ok (.getfield 29, 3) := dk_180 0 29 (dk_at dksX8_swaps_0 8 rfl rfl)
theorem dX8_swaps_11 : decode cX8_swaps 11 = .ok (.iload_n 1, 1) := dk_27 (dk_at dksX8_swaps_0 11 rfl rfl)
theorem dX8_swaps_12 : decode cX8_swaps 12 = .ok (.aload_n 0, 1) := dk_42 (dk_at dksX8_swaps_0 12 rfl rfl)
theorem dX8_swaps_13 : decode cX8_swaps 13 = .ok (.getfield 29, 3) := dk_180 0 29 (dk_at dksX8_swaps_0 13 rfl rfl)
theorem dX8_swaps_16 : decode cX8_swaps 16 = .ok (.iload_n 2, 1) := dk_28 (dk_at dksX8_swaps_0 16 rfl rfl)
theorem dX8_swaps_17 : decode cX8_swaps 17 = .ok (.iaload, 1) := dk_46 (dk_at dksX8_swaps_0 17 rfl rfl)
theorem dX8_swaps_18 : decode cX8_swaps 18 = .ok (.iastore, 1) := dk_79 (dk_at dksX8_swaps_0 18 rfl rfl)
theorem dX8_swaps_19 : decode cX8_swaps 19 = .ok (.aload_n 0, 1) := dk_42 (dk_at dksX8_swaps_0 19 rfl rfl)
theorem dX8_swaps_20 : decode cX8_swaps 20 = .ok (.getfield 29, 3) := dk_180 0 29 (dk_at dksX8_swaps_0 20 rfl rfl)
theorem dX8_swaps_23 : decode cX8_swaps 23 = .ok (.iload_n 2, 1) := dk_28 (dk_at dksX8_swaps_0 23 rfl rfl)
theorem dX8_swaps_24 : decode cX8_swaps 24 = .ok (.iload_n 3, 1) := dk_29 (dk_at dksX8_swaps_1 0 rfl rfl)
theorem dX8_swaps_25 : decode cX8_swaps 25 = .ok (.iastore, 1) := dk_79 (dk_at dksX8_swaps_1 1 rfl rfl)
theorem dX8_swaps_26 : decode cX8_swaps 26 = .ok (.return_, 1) := dk_177 (dk_at dksX8_swaps_1 2 rfl rfl)
abbrev cX8_settle : ByteArray := prog_16_method_60_code
def yX8_settle : MethodName := ⟨RX8, "settle", "()I"⟩
def dkwX8_settle_1 : List UInt8 := [112, 4, 100, 79, 27, 16, 10, 108, 60, 132, 2, 255, 167, 255, 232, 42, 180, 1, 45, 172]
abbrev dktX8_settle_1 : List UInt8 := dkwX8_settle_1 ++ []
def dkwX8_settle_0 : List UInt8 := [42, 3, 182, 1, 62, 42, 180, 1, 48, 60, 6, 61, 28, 155, 0, 26, 42, 180, 0, 29, 28, 27, 16, 10]
abbrev dktX8_settle_0 : List UInt8 := dkwX8_settle_0 ++ dktX8_settle_1
theorem dksX8_settle_0 : cX8_settle.data.toList.drop 0 = dktX8_settle_0 := by decide +kernel
theorem dksX8_settle_1 : cX8_settle.data.toList.drop 24 = dktX8_settle_1 := dk_seg dksX8_settle_0 24 rfl rfl
theorem dX8_settle_0 : decode cX8_settle 0 = .ok (.aload_n 0, 1) := dk_42 (dk_at dksX8_settle_0 0 rfl rfl)
theorem dX8_settle_1 : decode cX8_settle 1 = .ok (.iconst 0, 1) := dk_3 (dk_at dksX8_settle_0 1 rfl rfl)
theorem dX8_settle_2 : decode cX8_settle 2 = .ok (.invokevirtual 318, 3) := dk_182 1 62 (dk_at dksX8_settle_0 2 rfl rfl)
theorem dX8_settle_5 : decode cX8_settle 5 = .ok (.aload_n 0, 1) := dk_42 (dk_at dksX8_settle_0 5 rfl rfl)
theorem dX8_settle_6 : decode cX8_settle 6 = .ok (.getfield 304, 3) := dk_180 1 48 (dk_at dksX8_settle_0 6 rfl rfl)
theorem dX8_settle_9 : decode cX8_settle 9 = .ok (.istore_n 1, 1) := dk_60 (dk_at dksX8_settle_0 9 rfl rfl)
theorem dX8_settle_10 : decode cX8_settle 10 = .ok (.iconst 3, 1) := dk_6 (dk_at dksX8_settle_0 10 rfl rfl)
theorem dX8_settle_11 : decode cX8_settle 11 = .ok (.istore_n 2, 1) := dk_61 (dk_at dksX8_settle_0 11 rfl rfl)
theorem dX8_settle_12 : decode cX8_settle 12 = .ok (.iload_n 2, 1) := dk_28 (dk_at dksX8_settle_0 12 rfl rfl)
theorem dX8_settle_13 : decode cX8_settle 13 = .ok (.ifCond .lt 26, 3) := dk_155 0 26 (dk_at dksX8_settle_0 13 rfl rfl)
theorem dX8_settle_16 : decode cX8_settle 16 = .ok (.aload_n 0, 1) := dk_42 (dk_at dksX8_settle_0 16 rfl rfl)
theorem dX8_settle_17 : decode cX8_settle 17 = .ok (.getfield 29, 3) := dk_180 0 29 (dk_at dksX8_settle_0 17 rfl rfl)
theorem dX8_settle_20 : decode cX8_settle 20 = .ok (.iload_n 2, 1) := dk_28 (dk_at dksX8_settle_0 20 rfl rfl)
theorem dX8_settle_21 : decode cX8_settle 21 = .ok (.iload_n 1, 1) := dk_27 (dk_at dksX8_settle_0 21 rfl rfl)
theorem dX8_settle_22 : decode cX8_settle 22 = .ok (.bipush 10, 2) := dk_16 10 (dk_at dksX8_settle_0 22 rfl rfl)
theorem dX8_settle_24 : decode cX8_settle 24 = .ok (.irem, 1) := dk_112 (dk_at dksX8_settle_1 0 rfl rfl)
theorem dX8_settle_25 : decode cX8_settle 25 = .ok (.iconst 1, 1) := dk_4 (dk_at dksX8_settle_1 1 rfl rfl)
theorem dX8_settle_26 : decode cX8_settle 26 = .ok (.isub, 1) := dk_100 (dk_at dksX8_settle_1 2 rfl rfl)
theorem dX8_settle_27 : decode cX8_settle 27 = .ok (.iastore, 1) := dk_79 (dk_at dksX8_settle_1 3 rfl rfl)
theorem dX8_settle_28 : decode cX8_settle 28 = .ok (.iload_n 1, 1) := dk_27 (dk_at dksX8_settle_1 4 rfl rfl)
theorem dX8_settle_29 : decode cX8_settle 29 = .ok (.bipush 10, 2) := dk_16 10 (dk_at dksX8_settle_1 5 rfl rfl)
theorem dX8_settle_31 : decode cX8_settle 31 = .ok (.idiv, 1) := dk_108 (dk_at dksX8_settle_1 7 rfl rfl)
theorem dX8_settle_32 : decode cX8_settle 32 = .ok (.istore_n 1, 1) := dk_60 (dk_at dksX8_settle_1 8 rfl rfl)
theorem dX8_settle_33 : decode cX8_settle 33 = .ok (.iinc 2 (-1), 3) := dk_132 2 255 (dk_at dksX8_settle_1 9 rfl rfl)
theorem dX8_settle_36 : decode cX8_settle 36 = .ok (.goto (-24), 3) := dk_167 255 232 (dk_at dksX8_settle_1 12 rfl rfl)
theorem dX8_settle_39 : decode cX8_settle 39 = .ok (.aload_n 0, 1) := dk_42 (dk_at dksX8_settle_1 15 rfl rfl)
theorem dX8_settle_40 : decode cX8_settle 40 = .ok (.getfield 301, 3) := dk_180 1 45 (dk_at dksX8_settle_1 16 rfl rfl)
theorem dX8_settle_43 : decode cX8_settle 43 = .ok (.ireturn, 1) := dk_172 (dk_at dksX8_settle_1 19 rfl rfl)
abbrev cX8_tells : ByteArray := prog_16_method_62_code
def yX8_tells : MethodName := ⟨RX8, "tells", "(III)I"⟩
def dkwX8_tells_15 : List UInt8 := [21, 10, 167, 0, 5, 21, 11, 172]
abbrev dktX8_tells_15 : List UInt8 := dkwX8_tells_15 ++ []
def dkwX8_tells_14 : List UInt8 := [21, 6, 21, 8, 182, 0, 115, 21, 7, 6, 159, 0, 8, 21, 5, 167, 0, 16, 29, 16, 60, 162, 0, 8]
abbrev dktX8_tells_14 : List UInt8 := dkwX8_tells_14 ++ dktX8_tells_15
def dkwX8_tells_13 : List UInt8 := [4, 21, 12, 120, 128, 54, 5, 132, 10, 1, 21, 12, 54, 11, 132, 12, 255, 167, 255, 200, 42, 21, 7]
abbrev dktX8_tells_13 : List UInt8 := dkwX8_tells_13 ++ dktX8_tells_14
def dkwX8_tells_12 : List UInt8 := [42, 27, 21, 6, 28, 182, 1, 78, 2, 160, 0, 29, 21, 5, 21, 7, 6, 160, 0, 7, 3, 167, 0, 7]
abbrev dktX8_tells_12 : List UInt8 := dkwX8_tells_12 ++ dktX8_tells_13
def dkwX8_tells_11 : List UInt8 := [54, 10, 2, 54, 11, 21, 9, 54, 12, 21, 12, 155, 0, 57, 42, 21, 7, 21, 6, 21, 12, 182, 0, 115]
abbrev dktX8_tells_11 : List UInt8 := dkwX8_tells_11 ++ dktX8_tells_12
def dkwX8_tells_10 : List UInt8 := [4, 100, 167, 0, 18, 21, 7, 8, 160, 0, 7, 8, 167, 0, 8, 21, 7, 184, 0, 107, 54, 9, 3]
abbrev dktX8_tells_10 : List UInt8 := dkwX8_tells_10 ++ dktX8_tells_11
def dkwX8_tells_9 : List UInt8 := [167, 0, 11, 42, 21, 6, 21, 7, 182, 0, 111, 54, 8, 21, 7, 16, 6, 160, 0, 12, 42, 180, 0, 82]
abbrev dktX8_tells_9 : List UInt8 := dkwX8_tells_9 ++ dktX8_tells_10
def dkwX8_tells_8 : List UInt8 := [16, 70, 162, 0, 7, 6, 167, 0, 5, 16, 6, 54, 7, 21, 7, 16, 6, 160, 0, 10, 42, 180, 0, 119]
abbrev dktX8_tells_8 : List UInt8 := dkwX8_tells_8 ++ dktX8_tells_9
def dkwX8_tells_7 : List UInt8 := [167, 0, 35, 29, 16, 40, 162, 0, 7, 5, 167, 0, 25, 29, 16, 50, 162, 0, 7, 7, 167, 0, 15, 29]
abbrev dktX8_tells_7 : List UInt8 := dkwX8_tells_7 ++ dktX8_tells_8
def dkwX8_tells_6 : List UInt8 := [54, 6, 29, 16, 20, 162, 0, 12, 42, 27, 21, 6, 28, 182, 1, 78, 172, 29, 16, 30, 162, 0, 7, 8]
abbrev dktX8_tells_6 : List UInt8 := dkwX8_tells_6 ++ dktX8_tells_7
def dkwX8_tells_5 : List UInt8 := [167, 0, 4, 3, 21, 6, 120, 128, 54, 5, 132, 6, 1, 167, 255, 219, 21, 5, 172, 29, 16, 10, 112]
abbrev dktX8_tells_5 : List UInt8 := dkwX8_tells_5 ++ dktX8_tells_6
def dkwX8_tells_4 : List UInt8 := [21, 6, 42, 180, 0, 85, 162, 0, 34, 21, 5, 42, 27, 21, 6, 28, 182, 1, 78, 2, 160, 0, 7, 4]
abbrev dktX8_tells_4 : List UInt8 := dkwX8_tells_4 ++ dktX8_tells_5
def dkwX8_tells_3 : List UInt8 := [42, 180, 0, 72, 27, 46, 16, 8, 159, 0, 6, 16, 254, 172, 3, 54, 5, 29, 154, 0, 49, 3, 54, 6]
abbrev dktX8_tells_3 : List UInt8 := dkwX8_tells_3 ++ dktX8_tells_4
def dkwX8_tells_2 : List UInt8 := [29, 153, 0, 11, 21, 4, 154, 0, 6, 16, 254, 172, 42, 180, 0, 66, 27, 51, 154, 0, 6, 16, 245, 172]
abbrev dktX8_tells_2 : List UInt8 := dkwX8_tells_2 ++ dktX8_tells_3
def dkwX8_tells_1 : List UInt8 := [153, 0, 7, 4, 167, 0, 4, 3, 54, 4, 27, 184, 1, 75, 153, 0, 19, 28, 184, 0, 94, 153, 0, 12]
abbrev dktX8_tells_1 : List UInt8 := dkwX8_tells_1 ++ dktX8_tells_2
def dkwX8_tells_0 : List UInt8 := [29, 133, 20, 0, 186, 20, 1, 73, 184, 0, 88, 153, 0, 18, 42, 29, 16, 10, 112, 182, 0, 98]
abbrev dktX8_tells_0 : List UInt8 := dkwX8_tells_0 ++ dktX8_tells_1
theorem dksX8_tells_0 : cX8_tells.data.toList.drop 0 = dktX8_tells_0 := by decide +kernel
theorem dksX8_tells_1 : cX8_tells.data.toList.drop 22 = dktX8_tells_1 := dk_seg dksX8_tells_0 22 rfl rfl
theorem dksX8_tells_2 : cX8_tells.data.toList.drop 46 = dktX8_tells_2 := dk_seg dksX8_tells_1 24 rfl rfl
theorem dksX8_tells_3 : cX8_tells.data.toList.drop 70 = dktX8_tells_3 := dk_seg dksX8_tells_2 24 rfl rfl
theorem dksX8_tells_4 : cX8_tells.data.toList.drop 94 = dktX8_tells_4 := dk_seg dksX8_tells_3 24 rfl rfl
theorem dksX8_tells_5 : cX8_tells.data.toList.drop 118 = dktX8_tells_5 := dk_seg dksX8_tells_4 24 rfl rfl
theorem dksX8_tells_6 : cX8_tells.data.toList.drop 141 = dktX8_tells_6 := dk_seg dksX8_tells_5 23 rfl rfl
theorem dksX8_tells_7 : cX8_tells.data.toList.drop 165 = dktX8_tells_7 := dk_seg dksX8_tells_6 24 rfl rfl
theorem dksX8_tells_8 : cX8_tells.data.toList.drop 189 = dktX8_tells_8 := dk_seg dksX8_tells_7 24 rfl rfl
theorem dksX8_tells_9 : cX8_tells.data.toList.drop 213 = dktX8_tells_9 := dk_seg dksX8_tells_8 24 rfl rfl
theorem dksX8_tells_10 : cX8_tells.data.toList.drop 237 = dktX8_tells_10 := dk_seg dksX8_tells_9 24 rfl rfl
theorem dksX8_tells_11 : cX8_tells.data.toList.drop 260 = dktX8_tells_11 := dk_seg dksX8_tells_10 23 rfl rfl
theorem dksX8_tells_12 : cX8_tells.data.toList.drop 284 = dktX8_tells_12 := dk_seg dksX8_tells_11 24 rfl rfl
theorem dksX8_tells_13 : cX8_tells.data.toList.drop 308 = dktX8_tells_13 := dk_seg dksX8_tells_12 24 rfl rfl
theorem dksX8_tells_14 : cX8_tells.data.toList.drop 331 = dktX8_tells_14 := dk_seg dksX8_tells_13 23 rfl rfl
theorem dksX8_tells_15 : cX8_tells.data.toList.drop 355 = dktX8_tells_15 := dk_seg dksX8_tells_14 24 rfl rfl
theorem dX8_tells_0 : decode cX8_tells 0 = .ok (.iload_n 3, 1) := dk_29 (dk_at dksX8_tells_0 0 rfl rfl)
theorem dX8_tells_1 : decode cX8_tells 1 = .ok (.i2l, 1) := dk_133 (dk_at dksX8_tells_0 1 rfl rfl)
theorem dX8_tells_2 : decode cX8_tells 2 = .ok (.ldc2_w 186, 3) := dk_20 0 186 (dk_at dksX8_tells_0 2 rfl rfl)
theorem dX8_tells_5 : decode cX8_tells 5 = .ok (.ldc2_w 329, 3) := dk_20 1 73 (dk_at dksX8_tells_0 5 rfl rfl)
theorem dX8_tells_8 : decode cX8_tells 8 = .ok (.invokestatic 88, 3) := dk_184 0 88 (dk_at dksX8_tells_0 8 rfl rfl)
theorem dX8_tells_11 : decode cX8_tells 11 = .ok (.ifCond .eq 18, 3) := dk_153 0 18 (dk_at dksX8_tells_0 11 rfl rfl)
theorem dX8_tells_14 : decode cX8_tells 14 = .ok (.aload_n 0, 1) := dk_42 (dk_at dksX8_tells_0 14 rfl rfl)
theorem dX8_tells_15 : decode cX8_tells 15 = .ok (.iload_n 3, 1) := dk_29 (dk_at dksX8_tells_0 15 rfl rfl)
theorem dX8_tells_16 : decode cX8_tells 16 = .ok (.bipush 10, 2) := dk_16 10 (dk_at dksX8_tells_0 16 rfl rfl)
theorem dX8_tells_18 : decode cX8_tells 18 = .ok (.irem, 1) := dk_112 (dk_at dksX8_tells_0 18 rfl rfl)
theorem dX8_tells_19 : decode cX8_tells 19 = .ok (.invokevirtual 98, 3) := dk_182 0 98 (dk_at dksX8_tells_0 19 rfl rfl)
theorem dX8_tells_22 : decode cX8_tells 22 = .ok (.ifCond .eq 7, 3) := dk_153 0 7 (dk_at dksX8_tells_1 0 rfl rfl)
theorem dX8_tells_25 : decode cX8_tells 25 = .ok (.iconst 1, 1) := dk_4 (dk_at dksX8_tells_1 3 rfl rfl)
theorem dX8_tells_26 : decode cX8_tells 26 = .ok (.goto 4, 3) := dk_167 0 4 (dk_at dksX8_tells_1 4 rfl rfl)
theorem dX8_tells_29 : decode cX8_tells 29 = .ok (.iconst 0, 1) := dk_3 (dk_at dksX8_tells_1 7 rfl rfl)
theorem dX8_tells_30 : decode cX8_tells 30 = .ok (.istore 4, 2) := dk_54 4 (dk_at dksX8_tells_1 8 rfl rfl)
theorem dX8_tells_32 : decode cX8_tells 32 = .ok (.iload_n 1, 1) := dk_27 (dk_at dksX8_tells_1 10 rfl rfl)
theorem dX8_tells_33 : decode cX8_tells 33 = .ok (.invokestatic 331, 3) := dk_184 1 75 (dk_at dksX8_tells_1 11 rfl rfl)
theorem dX8_tells_36 : decode cX8_tells 36 = .ok (.ifCond .eq 19, 3) := dk_153 0 19 (dk_at dksX8_tells_1 14 rfl rfl)
theorem dX8_tells_39 : decode cX8_tells 39 = .ok (.iload_n 2, 1) := dk_28 (dk_at dksX8_tells_1 17 rfl rfl)
theorem dX8_tells_40 : decode cX8_tells 40 = .ok (.invokestatic 94, 3) := dk_184 0 94 (dk_at dksX8_tells_1 18 rfl rfl)
theorem dX8_tells_43 : decode cX8_tells 43 = .ok (.ifCond .eq 12, 3) := dk_153 0 12 (dk_at dksX8_tells_1 21 rfl rfl)
theorem dX8_tells_46 : decode cX8_tells 46 = .ok (.iload_n 3, 1) := dk_29 (dk_at dksX8_tells_2 0 rfl rfl)
theorem dX8_tells_47 : decode cX8_tells 47 = .ok (.ifCond .eq 11, 3) := dk_153 0 11 (dk_at dksX8_tells_2 1 rfl rfl)
theorem dX8_tells_50 : decode cX8_tells 50 = .ok (.iload 4, 2) := dk_21 4 (dk_at dksX8_tells_2 4 rfl rfl)
theorem dX8_tells_52 : decode cX8_tells 52 = .ok (.ifCond .ne 6, 3) := dk_154 0 6 (dk_at dksX8_tells_2 6 rfl rfl)
theorem dX8_tells_55 : decode cX8_tells 55 = .ok (.bipush (-2), 2) := dk_16 254 (dk_at dksX8_tells_2 9 rfl rfl)
theorem dX8_tells_57 : decode cX8_tells 57 = .ok (.ireturn, 1) := dk_172 (dk_at dksX8_tells_2 11 rfl rfl)
theorem dX8_tells_58 : decode cX8_tells 58 = .ok (.aload_n 0, 1) := dk_42 (dk_at dksX8_tells_2 12 rfl rfl)
theorem dX8_tells_59 : decode cX8_tells 59 = .ok (.getfield 66, 3) := dk_180 0 66 (dk_at dksX8_tells_2 13 rfl rfl)
theorem dX8_tells_62 : decode cX8_tells 62 = .ok (.iload_n 1, 1) := dk_27 (dk_at dksX8_tells_2 16 rfl rfl)
theorem dX8_tells_63 : decode cX8_tells 63 = .ok (.baload, 1) := dk_51 (dk_at dksX8_tells_2 17 rfl rfl)
theorem dX8_tells_64 : decode cX8_tells 64 = .ok (.ifCond .ne 6, 3) := dk_154 0 6 (dk_at dksX8_tells_2 18 rfl rfl)
theorem dX8_tells_67 : decode cX8_tells 67 = .ok (.bipush (-11), 2) := dk_16 245 (dk_at dksX8_tells_2 21 rfl rfl)
theorem dX8_tells_69 : decode cX8_tells 69 = .ok (.ireturn, 1) := dk_172 (dk_at dksX8_tells_2 23 rfl rfl)
theorem dX8_tells_70 : decode cX8_tells 70 = .ok (.aload_n 0, 1) := dk_42 (dk_at dksX8_tells_3 0 rfl rfl)
theorem dX8_tells_71 : decode cX8_tells 71 = .ok (.getfield 72, 3) := dk_180 0 72 (dk_at dksX8_tells_3 1 rfl rfl)
theorem dX8_tells_74 : decode cX8_tells 74 = .ok (.iload_n 1, 1) := dk_27 (dk_at dksX8_tells_3 4 rfl rfl)
theorem dX8_tells_75 : decode cX8_tells 75 = .ok (.iaload, 1) := dk_46 (dk_at dksX8_tells_3 5 rfl rfl)
theorem dX8_tells_76 : decode cX8_tells 76 = .ok (.bipush 8, 2) := dk_16 8 (dk_at dksX8_tells_3 6 rfl rfl)
theorem dX8_tells_78 : decode cX8_tells 78 = .ok (.if_icmp .eq 6, 3) := dk_159 0 6 (dk_at dksX8_tells_3 8 rfl rfl)
theorem dX8_tells_81 : decode cX8_tells 81 = .ok (.bipush (-2), 2) := dk_16 254 (dk_at dksX8_tells_3 11 rfl rfl)
theorem dX8_tells_83 : decode cX8_tells 83 = .ok (.ireturn, 1) := dk_172 (dk_at dksX8_tells_3 13 rfl rfl)
theorem dX8_tells_84 : decode cX8_tells 84 = .ok (.iconst 0, 1) := dk_3 (dk_at dksX8_tells_3 14 rfl rfl)
theorem dX8_tells_85 : decode cX8_tells 85 = .ok (.istore 5, 2) := dk_54 5 (dk_at dksX8_tells_3 15 rfl rfl)
theorem dX8_tells_87 : decode cX8_tells 87 = .ok (.iload_n 3, 1) := dk_29 (dk_at dksX8_tells_3 17 rfl rfl)
theorem dX8_tells_88 : decode cX8_tells 88 = .ok (.ifCond .ne 49, 3) := dk_154 0 49 (dk_at dksX8_tells_3 18 rfl rfl)
theorem dX8_tells_91 : decode cX8_tells 91 = .ok (.iconst 0, 1) := dk_3 (dk_at dksX8_tells_3 21 rfl rfl)
theorem dX8_tells_92 : decode cX8_tells 92 = .ok (.istore 6, 2) := dk_54 6 (dk_at dksX8_tells_3 22 rfl rfl)
theorem dX8_tells_94 : decode cX8_tells 94 = .ok (.iload 6, 2) := dk_21 6 (dk_at dksX8_tells_4 0 rfl rfl)
theorem dX8_tells_96 : decode cX8_tells 96 = .ok (.aload_n 0, 1) := dk_42 (dk_at dksX8_tells_4 2 rfl rfl)
theorem dX8_tells_97 : decode cX8_tells 97 = .ok (.getfield 85, 3) := dk_180 0 85 (dk_at dksX8_tells_4 3 rfl rfl)
theorem dX8_tells_100 : decode cX8_tells 100 = .ok (.if_icmp .ge 34, 3) := dk_162 0 34 (dk_at dksX8_tells_4 6 rfl rfl)
theorem dX8_tells_103 : decode cX8_tells 103 = .ok (.iload 5, 2) := dk_21 5 (dk_at dksX8_tells_4 9 rfl rfl)
theorem dX8_tells_105 : decode cX8_tells 105 = .ok (.aload_n 0, 1) := dk_42 (dk_at dksX8_tells_4 11 rfl rfl)
theorem dX8_tells_106 : decode cX8_tells 106 = .ok (.iload_n 1, 1) := dk_27 (dk_at dksX8_tells_4 12 rfl rfl)
theorem dX8_tells_107 : decode cX8_tells 107 = .ok (.iload 6, 2) := dk_21 6 (dk_at dksX8_tells_4 13 rfl rfl)
theorem dX8_tells_109 : decode cX8_tells 109 = .ok (.iload_n 2, 1) := dk_28 (dk_at dksX8_tells_4 15 rfl rfl)
theorem dX8_tells_110 : decode cX8_tells 110 = .ok (.invokevirtual 334, 3) := dk_182 1 78 (dk_at dksX8_tells_4 16 rfl rfl)
theorem dX8_tells_113 : decode cX8_tells 113 = .ok (.iconst (-1), 1) := dk_2 (dk_at dksX8_tells_4 19 rfl rfl)
theorem dX8_tells_114 : decode cX8_tells 114 = .ok (.if_icmp .ne 7, 3) := dk_160 0 7 (dk_at dksX8_tells_4 20 rfl rfl)
theorem dX8_tells_117 : decode cX8_tells 117 = .ok (.iconst 1, 1) := dk_4 (dk_at dksX8_tells_4 23 rfl rfl)
theorem dX8_tells_118 : decode cX8_tells 118 = .ok (.goto 4, 3) := dk_167 0 4 (dk_at dksX8_tells_5 0 rfl rfl)
theorem dX8_tells_121 : decode cX8_tells 121 = .ok (.iconst 0, 1) := dk_3 (dk_at dksX8_tells_5 3 rfl rfl)
theorem dX8_tells_122 : decode cX8_tells 122 = .ok (.iload 6, 2) := dk_21 6 (dk_at dksX8_tells_5 4 rfl rfl)
theorem dX8_tells_124 : decode cX8_tells 124 = .ok (.ishl, 1) := dk_120 (dk_at dksX8_tells_5 6 rfl rfl)
theorem dX8_tells_125 : decode cX8_tells 125 = .ok (.ior, 1) := dk_128 (dk_at dksX8_tells_5 7 rfl rfl)
theorem dX8_tells_126 : decode cX8_tells 126 = .ok (.istore 5, 2) := dk_54 5 (dk_at dksX8_tells_5 8 rfl rfl)
theorem dX8_tells_128 : decode cX8_tells 128 = .ok (.iinc 6 1, 3) := dk_132 6 1 (dk_at dksX8_tells_5 10 rfl rfl)
theorem dX8_tells_131 : decode cX8_tells 131 = .ok (.goto (-37), 3) := dk_167 255 219 (dk_at dksX8_tells_5 13 rfl rfl)
theorem dX8_tells_134 : decode cX8_tells 134 = .ok (.iload 5, 2) := dk_21 5 (dk_at dksX8_tells_5 16 rfl rfl)
theorem dX8_tells_136 : decode cX8_tells 136 = .ok (.ireturn, 1) := dk_172 (dk_at dksX8_tells_5 18 rfl rfl)
theorem dX8_tells_137 : decode cX8_tells 137 = .ok (.iload_n 3, 1) := dk_29 (dk_at dksX8_tells_5 19 rfl rfl)
theorem dX8_tells_138 : decode cX8_tells 138 = .ok (.bipush 10, 2) := dk_16 10 (dk_at dksX8_tells_5 20 rfl rfl)
theorem dX8_tells_140 : decode cX8_tells 140 = .ok (.irem, 1) := dk_112 (dk_at dksX8_tells_5 22 rfl rfl)
theorem dX8_tells_141 : decode cX8_tells 141 = .ok (.istore 6, 2) := dk_54 6 (dk_at dksX8_tells_6 0 rfl rfl)
theorem dX8_tells_143 : decode cX8_tells 143 = .ok (.iload_n 3, 1) := dk_29 (dk_at dksX8_tells_6 2 rfl rfl)
theorem dX8_tells_144 : decode cX8_tells 144 = .ok (.bipush 20, 2) := dk_16 20 (dk_at dksX8_tells_6 3 rfl rfl)
theorem dX8_tells_146 : decode cX8_tells 146 = .ok (.if_icmp .ge 12, 3) := dk_162 0 12 (dk_at dksX8_tells_6 5 rfl rfl)
theorem dX8_tells_149 : decode cX8_tells 149 = .ok (.aload_n 0, 1) := dk_42 (dk_at dksX8_tells_6 8 rfl rfl)
theorem dX8_tells_150 : decode cX8_tells 150 = .ok (.iload_n 1, 1) := dk_27 (dk_at dksX8_tells_6 9 rfl rfl)
theorem dX8_tells_151 : decode cX8_tells 151 = .ok (.iload 6, 2) := dk_21 6 (dk_at dksX8_tells_6 10 rfl rfl)
theorem dX8_tells_153 : decode cX8_tells 153 = .ok (.iload_n 2, 1) := dk_28 (dk_at dksX8_tells_6 12 rfl rfl)
theorem dX8_tells_154 : decode cX8_tells 154 = .ok (.invokevirtual 334, 3) := dk_182 1 78 (dk_at dksX8_tells_6 13 rfl rfl)
theorem dX8_tells_157 : decode cX8_tells 157 = .ok (.ireturn, 1) := dk_172 (dk_at dksX8_tells_6 16 rfl rfl)
theorem dX8_tells_158 : decode cX8_tells 158 = .ok (.iload_n 3, 1) := dk_29 (dk_at dksX8_tells_6 17 rfl rfl)
theorem dX8_tells_159 : decode cX8_tells 159 = .ok (.bipush 30, 2) := dk_16 30 (dk_at dksX8_tells_6 18 rfl rfl)
theorem dX8_tells_161 : decode cX8_tells 161 = .ok (.if_icmp .ge 7, 3) := dk_162 0 7 (dk_at dksX8_tells_6 20 rfl rfl)
theorem dX8_tells_164 : decode cX8_tells 164 = .ok (.iconst 5, 1) := dk_8 (dk_at dksX8_tells_6 23 rfl rfl)
theorem dX8_tells_165 : decode cX8_tells 165 = .ok (.goto 35, 3) := dk_167 0 35 (dk_at dksX8_tells_7 0 rfl rfl)
theorem dX8_tells_168 : decode cX8_tells 168 = .ok (.iload_n 3, 1) := dk_29 (dk_at dksX8_tells_7 3 rfl rfl)
theorem dX8_tells_169 : decode cX8_tells 169 = .ok (.bipush 40, 2) := dk_16 40 (dk_at dksX8_tells_7 4 rfl rfl)
theorem dX8_tells_171 : decode cX8_tells 171 = .ok (.if_icmp .ge 7, 3) := dk_162 0 7 (dk_at dksX8_tells_7 6 rfl rfl)
theorem dX8_tells_174 : decode cX8_tells 174 = .ok (.iconst 2, 1) := dk_5 (dk_at dksX8_tells_7 9 rfl rfl)
theorem dX8_tells_175 : decode cX8_tells 175 = .ok (.goto 25, 3) := dk_167 0 25 (dk_at dksX8_tells_7 10 rfl rfl)
theorem dX8_tells_178 : decode cX8_tells 178 = .ok (.iload_n 3, 1) := dk_29 (dk_at dksX8_tells_7 13 rfl rfl)
theorem dX8_tells_179 : decode cX8_tells 179 = .ok (.bipush 50, 2) := dk_16 50 (dk_at dksX8_tells_7 14 rfl rfl)
theorem dX8_tells_181 : decode cX8_tells 181 = .ok (.if_icmp .ge 7, 3) := dk_162 0 7 (dk_at dksX8_tells_7 16 rfl rfl)
theorem dX8_tells_184 : decode cX8_tells 184 = .ok (.iconst 4, 1) := dk_7 (dk_at dksX8_tells_7 19 rfl rfl)
theorem dX8_tells_185 : decode cX8_tells 185 = .ok (.goto 15, 3) := dk_167 0 15 (dk_at dksX8_tells_7 20 rfl rfl)
theorem dX8_tells_188 : decode cX8_tells 188 = .ok (.iload_n 3, 1) := dk_29 (dk_at dksX8_tells_7 23 rfl rfl)
theorem dX8_tells_189 : decode cX8_tells 189 = .ok (.bipush 70, 2) := dk_16 70 (dk_at dksX8_tells_8 0 rfl rfl)
theorem dX8_tells_191 : decode cX8_tells 191 = .ok (.if_icmp .ge 7, 3) := dk_162 0 7 (dk_at dksX8_tells_8 2 rfl rfl)
theorem dX8_tells_194 : decode cX8_tells 194 = .ok (.iconst 3, 1) := dk_6 (dk_at dksX8_tells_8 5 rfl rfl)
theorem dX8_tells_195 : decode cX8_tells 195 = .ok (.goto 5, 3) := dk_167 0 5 (dk_at dksX8_tells_8 6 rfl rfl)
theorem dX8_tells_198 : decode cX8_tells 198 = .ok (.bipush 6, 2) := dk_16 6 (dk_at dksX8_tells_8 9 rfl rfl)
theorem dX8_tells_200 : decode cX8_tells 200 = .ok (.istore 7, 2) := dk_54 7 (dk_at dksX8_tells_8 11 rfl rfl)
theorem dX8_tells_202 : decode cX8_tells 202 = .ok (.iload 7, 2) := dk_21 7 (dk_at dksX8_tells_8 13 rfl rfl)
theorem dX8_tells_204 : decode cX8_tells 204 = .ok (.bipush 6, 2) := dk_16 6 (dk_at dksX8_tells_8 15 rfl rfl)
theorem dX8_tells_206 : decode cX8_tells 206 = .ok (.if_icmp .ne 10, 3) := dk_160 0 10 (dk_at dksX8_tells_8 17 rfl rfl)
theorem dX8_tells_209 : decode cX8_tells 209 = .ok (.aload_n 0, 1) := dk_42 (dk_at dksX8_tells_8 20 rfl rfl)
theorem dX8_tells_210 : decode cX8_tells 210 = .ok (.getfield 119, 3) := dk_180 0 119 (dk_at dksX8_tells_8 21 rfl rfl)
theorem dX8_tells_213 : decode cX8_tells 213 = .ok (.goto 11, 3) := dk_167 0 11 (dk_at dksX8_tells_9 0 rfl rfl)
theorem dX8_tells_216 : decode cX8_tells 216 = .ok (.aload_n 0, 1) := dk_42 (dk_at dksX8_tells_9 3 rfl rfl)
theorem dX8_tells_217 : decode cX8_tells 217 = .ok (.iload 6, 2) := dk_21 6 (dk_at dksX8_tells_9 4 rfl rfl)
theorem dX8_tells_219 : decode cX8_tells 219 = .ok (.iload 7, 2) := dk_21 7 (dk_at dksX8_tells_9 6 rfl rfl)
theorem dX8_tells_221 : decode cX8_tells 221 = .ok (.invokevirtual 111, 3) := dk_182 0 111 (dk_at dksX8_tells_9 8 rfl rfl)
theorem dX8_tells_224 : decode cX8_tells 224 = .ok (.istore 8, 2) := dk_54 8 (dk_at dksX8_tells_9 11 rfl rfl)
theorem dX8_tells_226 : decode cX8_tells 226 = .ok (.iload 7, 2) := dk_21 7 (dk_at dksX8_tells_9 13 rfl rfl)
theorem dX8_tells_228 : decode cX8_tells 228 = .ok (.bipush 6, 2) := dk_16 6 (dk_at dksX8_tells_9 15 rfl rfl)
theorem dX8_tells_230 : decode cX8_tells 230 = .ok (.if_icmp .ne 12, 3) := dk_160 0 12 (dk_at dksX8_tells_9 17 rfl rfl)
theorem dX8_tells_233 : decode cX8_tells 233 = .ok (.aload_n 0, 1) := dk_42 (dk_at dksX8_tells_9 20 rfl rfl)
theorem dX8_tells_234 : decode cX8_tells 234 = .ok (.getfield 82, 3) := dk_180 0 82 (dk_at dksX8_tells_9 21 rfl rfl)
theorem dX8_tells_237 : decode cX8_tells 237 = .ok (.iconst 1, 1) := dk_4 (dk_at dksX8_tells_10 0 rfl rfl)
theorem dX8_tells_238 : decode cX8_tells 238 = .ok (.isub, 1) := dk_100 (dk_at dksX8_tells_10 1 rfl rfl)
theorem dX8_tells_239 : decode cX8_tells 239 = .ok (.goto 18, 3) := dk_167 0 18 (dk_at dksX8_tells_10 2 rfl rfl)
theorem dX8_tells_242 : decode cX8_tells 242 = .ok (.iload 7, 2) := dk_21 7 (dk_at dksX8_tells_10 5 rfl rfl)
theorem dX8_tells_244 : decode cX8_tells 244 = .ok (.iconst 5, 1) := dk_8 (dk_at dksX8_tells_10 7 rfl rfl)
theorem dX8_tells_245 : decode cX8_tells 245 = .ok (.if_icmp .ne 7, 3) := dk_160 0 7 (dk_at dksX8_tells_10 8 rfl rfl)
theorem dX8_tells_248 : decode cX8_tells 248 = .ok (.iconst 5, 1) := dk_8 (dk_at dksX8_tells_10 11 rfl rfl)
theorem dX8_tells_249 : decode cX8_tells 249 = .ok (.goto 8, 3) := dk_167 0 8 (dk_at dksX8_tells_10 12 rfl rfl)
theorem dX8_tells_252 : decode cX8_tells 252 = .ok (.iload 7, 2) := dk_21 7 (dk_at dksX8_tells_10 15 rfl rfl)
theorem dX8_tells_254 : decode cX8_tells 254 = .ok (.invokestatic 107, 3) := dk_184 0 107 (dk_at dksX8_tells_10 17 rfl rfl)
theorem dX8_tells_257 : decode cX8_tells 257 = .ok (.istore 9, 2) := dk_54 9 (dk_at dksX8_tells_10 20 rfl rfl)
theorem dX8_tells_259 : decode cX8_tells 259 = .ok (.iconst 0, 1) := dk_3 (dk_at dksX8_tells_10 22 rfl rfl)
theorem dX8_tells_260 : decode cX8_tells 260 = .ok (.istore 10, 2) := dk_54 10 (dk_at dksX8_tells_11 0 rfl rfl)
theorem dX8_tells_262 : decode cX8_tells 262 = .ok (.iconst (-1), 1) := dk_2 (dk_at dksX8_tells_11 2 rfl rfl)
theorem dX8_tells_263 : decode cX8_tells 263 = .ok (.istore 11, 2) := dk_54 11 (dk_at dksX8_tells_11 3 rfl rfl)
theorem dX8_tells_265 : decode cX8_tells 265 = .ok (.iload 9, 2) := dk_21 9 (dk_at dksX8_tells_11 5 rfl rfl)
theorem dX8_tells_267 : decode cX8_tells 267 = .ok (.istore 12, 2) := dk_54 12 (dk_at dksX8_tells_11 7 rfl rfl)
theorem dX8_tells_269 : decode cX8_tells 269 = .ok (.iload 12, 2) := dk_21 12 (dk_at dksX8_tells_11 9 rfl rfl)
theorem dX8_tells_271 : decode cX8_tells 271 = .ok (.ifCond .lt 57, 3) := dk_155 0 57 (dk_at dksX8_tells_11 11 rfl rfl)
theorem dX8_tells_274 : decode cX8_tells 274 = .ok (.aload_n 0, 1) := dk_42 (dk_at dksX8_tells_11 14 rfl rfl)
theorem dX8_tells_275 : decode cX8_tells 275 = .ok (.iload 7, 2) := dk_21 7 (dk_at dksX8_tells_11 15 rfl rfl)
theorem dX8_tells_277 : decode cX8_tells 277 = .ok (.iload 6, 2) := dk_21 6 (dk_at dksX8_tells_11 17 rfl rfl)
theorem dX8_tells_279 : decode cX8_tells 279 = .ok (.iload 12, 2) := dk_21 12 (dk_at dksX8_tells_11 19 rfl rfl)
theorem dX8_tells_281 : decode cX8_tells 281 = .ok (.invokevirtual 115, 3) := dk_182 0 115 (dk_at dksX8_tells_11 21 rfl rfl)
theorem dX8_tells_284 : decode cX8_tells 284 = .ok (.aload_n 0, 1) := dk_42 (dk_at dksX8_tells_12 0 rfl rfl)
theorem dX8_tells_285 : decode cX8_tells 285 = .ok (.iload_n 1, 1) := dk_27 (dk_at dksX8_tells_12 1 rfl rfl)
theorem dX8_tells_286 : decode cX8_tells 286 = .ok (.iload 6, 2) := dk_21 6 (dk_at dksX8_tells_12 2 rfl rfl)
theorem dX8_tells_288 : decode cX8_tells 288 = .ok (.iload_n 2, 1) := dk_28 (dk_at dksX8_tells_12 4 rfl rfl)
theorem dX8_tells_289 : decode cX8_tells 289 = .ok (.invokevirtual 334, 3) := dk_182 1 78 (dk_at dksX8_tells_12 5 rfl rfl)
theorem dX8_tells_292 : decode cX8_tells 292 = .ok (.iconst (-1), 1) := dk_2 (dk_at dksX8_tells_12 8 rfl rfl)
theorem dX8_tells_293 : decode cX8_tells 293 = .ok (.if_icmp .ne 29, 3) := dk_160 0 29 (dk_at dksX8_tells_12 9 rfl rfl)
theorem dX8_tells_296 : decode cX8_tells 296 = .ok (.iload 5, 2) := dk_21 5 (dk_at dksX8_tells_12 12 rfl rfl)
theorem dX8_tells_298 : decode cX8_tells 298 = .ok (.iload 7, 2) := dk_21 7 (dk_at dksX8_tells_12 14 rfl rfl)
theorem dX8_tells_300 : decode cX8_tells 300 = .ok (.iconst 3, 1) := dk_6 (dk_at dksX8_tells_12 16 rfl rfl)
theorem dX8_tells_301 : decode cX8_tells 301 = .ok (.if_icmp .ne 7, 3) := dk_160 0 7 (dk_at dksX8_tells_12 17 rfl rfl)
theorem dX8_tells_304 : decode cX8_tells 304 = .ok (.iconst 0, 1) := dk_3 (dk_at dksX8_tells_12 20 rfl rfl)
theorem dX8_tells_305 : decode cX8_tells 305 = .ok (.goto 7, 3) := dk_167 0 7 (dk_at dksX8_tells_12 21 rfl rfl)
theorem dX8_tells_308 : decode cX8_tells 308 = .ok (.iconst 1, 1) := dk_4 (dk_at dksX8_tells_13 0 rfl rfl)
theorem dX8_tells_309 : decode cX8_tells 309 = .ok (.iload 12, 2) := dk_21 12 (dk_at dksX8_tells_13 1 rfl rfl)
theorem dX8_tells_311 : decode cX8_tells 311 = .ok (.ishl, 1) := dk_120 (dk_at dksX8_tells_13 3 rfl rfl)
theorem dX8_tells_312 : decode cX8_tells 312 = .ok (.ior, 1) := dk_128 (dk_at dksX8_tells_13 4 rfl rfl)
theorem dX8_tells_313 : decode cX8_tells 313 = .ok (.istore 5, 2) := dk_54 5 (dk_at dksX8_tells_13 5 rfl rfl)
theorem dX8_tells_315 : decode cX8_tells 315 = .ok (.iinc 10 1, 3) := dk_132 10 1 (dk_at dksX8_tells_13 7 rfl rfl)
theorem dX8_tells_318 : decode cX8_tells 318 = .ok (.iload 12, 2) := dk_21 12 (dk_at dksX8_tells_13 10 rfl rfl)
theorem dX8_tells_320 : decode cX8_tells 320 = .ok (.istore 11, 2) := dk_54 11 (dk_at dksX8_tells_13 12 rfl rfl)
theorem dX8_tells_322 : decode cX8_tells 322 = .ok (.iinc 12 (-1), 3) := dk_132 12 255 (dk_at dksX8_tells_13 14 rfl rfl)
theorem dX8_tells_325 : decode cX8_tells 325 = .ok (.goto (-56), 3) := dk_167 255 200 (dk_at dksX8_tells_13 17 rfl rfl)
theorem dX8_tells_328 : decode cX8_tells 328 = .ok (.aload_n 0, 1) := dk_42 (dk_at dksX8_tells_13 20 rfl rfl)
theorem dX8_tells_329 : decode cX8_tells 329 = .ok (.iload 7, 2) := dk_21 7 (dk_at dksX8_tells_13 21 rfl rfl)
theorem dX8_tells_331 : decode cX8_tells 331 = .ok (.iload 6, 2) := dk_21 6 (dk_at dksX8_tells_14 0 rfl rfl)
theorem dX8_tells_333 : decode cX8_tells 333 = .ok (.iload 8, 2) := dk_21 8 (dk_at dksX8_tells_14 2 rfl rfl)
theorem dX8_tells_335 : decode cX8_tells 335 = .ok (.invokevirtual 115, 3) := dk_182 0 115 (dk_at dksX8_tells_14 4 rfl rfl)
theorem dX8_tells_338 : decode cX8_tells 338 = .ok (.iload 7, 2) := dk_21 7 (dk_at dksX8_tells_14 7 rfl rfl)
theorem dX8_tells_340 : decode cX8_tells 340 = .ok (.iconst 3, 1) := dk_6 (dk_at dksX8_tells_14 9 rfl rfl)
theorem dX8_tells_341 : decode cX8_tells 341 = .ok (.if_icmp .eq 8, 3) := dk_159 0 8 (dk_at dksX8_tells_14 10 rfl rfl)
theorem dX8_tells_344 : decode cX8_tells 344 = .ok (.iload 5, 2) := dk_21 5 (dk_at dksX8_tells_14 13 rfl rfl)
theorem dX8_tells_346 : decode cX8_tells 346 = .ok (.goto 16, 3) := dk_167 0 16 (dk_at dksX8_tells_14 15 rfl rfl)
theorem dX8_tells_349 : decode cX8_tells 349 = .ok (.iload_n 3, 1) := dk_29 (dk_at dksX8_tells_14 18 rfl rfl)
theorem dX8_tells_350 : decode cX8_tells 350 = .ok (.bipush 60, 2) := dk_16 60 (dk_at dksX8_tells_14 19 rfl rfl)
theorem dX8_tells_352 : decode cX8_tells 352 = .ok (.if_icmp .ge 8, 3) := dk_162 0 8 (dk_at dksX8_tells_14 21 rfl rfl)
theorem dX8_tells_355 : decode cX8_tells 355 = .ok (.iload 10, 2) := dk_21 10 (dk_at dksX8_tells_15 0 rfl rfl)
theorem dX8_tells_357 : decode cX8_tells 357 = .ok (.goto 5, 3) := dk_167 0 5 (dk_at dksX8_tells_15 2 rfl rfl)
theorem dX8_tells_360 : decode cX8_tells 360 = .ok (.iload 11, 2) := dk_21 11 (dk_at dksX8_tells_15 5 rfl rfl)
theorem dX8_tells_362 : decode cX8_tells 362 = .ok (.ireturn, 1) := dk_172 (dk_at dksX8_tells_15 7 rfl rfl)
abbrev cX8_isSheet : ByteArray := prog_16_method_71_code
def yX8_isSheet : MethodName := ⟨RX8, "isSheet", "(I)Z"⟩
def dkwX8_isSheet_0 : List UInt8 := [26, 133, 9, 20, 0, 92, 184, 0, 88, 172]
abbrev dktX8_isSheet_0 : List UInt8 := dkwX8_isSheet_0 ++ []
theorem dksX8_isSheet_0 : cX8_isSheet.data.toList.drop 0 = dktX8_isSheet_0 := by decide +kernel
theorem dX8_isSheet_0 : decode cX8_isSheet 0 = .ok (.iload_n 0, 1) := dk_26 (dk_at dksX8_isSheet_0 0 rfl rfl)
theorem dX8_isSheet_1 : decode cX8_isSheet 1 = .ok (.i2l, 1) := dk_133 (dk_at dksX8_isSheet_0 1 rfl rfl)
theorem dX8_isSheet_2 : decode cX8_isSheet 2 = .ok (.lconst 0, 1) := dk_9 (dk_at dksX8_isSheet_0 2 rfl rfl)
theorem dX8_isSheet_3 : decode cX8_isSheet 3 = .ok (.ldc2_w 92, 3) := dk_20 0 92 (dk_at dksX8_isSheet_0 3 rfl rfl)
theorem dX8_isSheet_6 : decode cX8_isSheet 6 = .ok (.invokestatic 88, 3) := dk_184 0 88 (dk_at dksX8_isSheet_0 6 rfl rfl)
theorem dX8_isSheet_9 : decode cX8_isSheet 9 = .ok (.ireturn, 1) := dk_172 (dk_at dksX8_isSheet_0 9 rfl rfl)
abbrev cX8_firstOther : ByteArray := prog_16_method_61_code
def yX8_firstOther : MethodName := ⟨RX8, "firstOther", "(III)I"⟩
def dkwX8_firstOther_1 : List UInt8 := [27, 104, 21, 4, 96, 46, 159, 0, 6, 21, 4, 172, 132, 4, 1, 167, 255, 220, 2, 172]
abbrev dktX8_firstOther_1 : List UInt8 := dkwX8_firstOther_1 ++ []
def dkwX8_firstOther_0 : List UInt8 := [3, 54, 4, 21, 4, 16, 8, 162, 0, 35, 42, 28, 29, 21, 4, 182, 1, 23, 42, 180, 0, 75, 16, 40]
abbrev dktX8_firstOther_0 : List UInt8 := dkwX8_firstOther_0 ++ dktX8_firstOther_1
theorem dksX8_firstOther_0 : cX8_firstOther.data.toList.drop 0 = dktX8_firstOther_0 := by decide +kernel
theorem dksX8_firstOther_1 : cX8_firstOther.data.toList.drop 24 = dktX8_firstOther_1 := dk_seg dksX8_firstOther_0 24 rfl rfl
theorem dX8_firstOther_0 : decode cX8_firstOther 0 = .ok (.iconst 0, 1) := dk_3 (dk_at dksX8_firstOther_0 0 rfl rfl)
theorem dX8_firstOther_1 : decode cX8_firstOther 1 = .ok (.istore 4, 2) := dk_54 4 (dk_at dksX8_firstOther_0 1 rfl rfl)
theorem dX8_firstOther_3 : decode cX8_firstOther 3 = .ok (.iload 4, 2) := dk_21 4 (dk_at dksX8_firstOther_0 3 rfl rfl)
theorem dX8_firstOther_5 : decode cX8_firstOther 5 = .ok (.bipush 8, 2) := dk_16 8 (dk_at dksX8_firstOther_0 5 rfl rfl)
theorem dX8_firstOther_7 : decode cX8_firstOther 7 = .ok (.if_icmp .ge 35, 3) := dk_162 0 35 (dk_at dksX8_firstOther_0 7 rfl rfl)
theorem dX8_firstOther_10 : decode cX8_firstOther 10 = .ok (.aload_n 0, 1) := dk_42 (dk_at dksX8_firstOther_0 10 rfl rfl)
theorem dX8_firstOther_11 : decode cX8_firstOther 11 = .ok (.iload_n 2, 1) := dk_28 (dk_at dksX8_firstOther_0 11 rfl rfl)
theorem dX8_firstOther_12 : decode cX8_firstOther 12 = .ok (.iload_n 3, 1) := dk_29 (dk_at dksX8_firstOther_0 12 rfl rfl)
theorem dX8_firstOther_13 : decode cX8_firstOther 13 = .ok (.iload 4, 2) := dk_21 4 (dk_at dksX8_firstOther_0 13 rfl rfl)
theorem dX8_firstOther_15 : decode cX8_firstOther 15 = .ok (.invokevirtual 279, 3) := dk_182 1 23 (dk_at dksX8_firstOther_0 15 rfl rfl)
theorem dX8_firstOther_18 : decode cX8_firstOther 18 = .ok (.aload_n 0, 1) := dk_42 (dk_at dksX8_firstOther_0 18 rfl rfl)
theorem dX8_firstOther_19 : decode cX8_firstOther 19 = .ok (.getfield 75, 3) := dk_180 0 75 (dk_at dksX8_firstOther_0 19 rfl rfl)
theorem dX8_firstOther_22 : decode cX8_firstOther 22 = .ok (.bipush 40, 2) := dk_16 40 (dk_at dksX8_firstOther_0 22 rfl rfl)
theorem dX8_firstOther_24 : decode cX8_firstOther 24 = .ok (.iload_n 1, 1) := dk_27 (dk_at dksX8_firstOther_1 0 rfl rfl)
theorem dX8_firstOther_25 : decode cX8_firstOther 25 = .ok (.imul, 1) := dk_104 (dk_at dksX8_firstOther_1 1 rfl rfl)
theorem dX8_firstOther_26 : decode cX8_firstOther 26 = .ok (.iload 4, 2) := dk_21 4 (dk_at dksX8_firstOther_1 2 rfl rfl)
theorem dX8_firstOther_28 : decode cX8_firstOther 28 = .ok (.iadd, 1) := dk_96 (dk_at dksX8_firstOther_1 4 rfl rfl)
theorem dX8_firstOther_29 : decode cX8_firstOther 29 = .ok (.iaload, 1) := dk_46 (dk_at dksX8_firstOther_1 5 rfl rfl)
theorem dX8_firstOther_30 : decode cX8_firstOther 30 = .ok (.if_icmp .eq 6, 3) := dk_159 0 6 (dk_at dksX8_firstOther_1 6 rfl rfl)
theorem dX8_firstOther_33 : decode cX8_firstOther 33 = .ok (.iload 4, 2) := dk_21 4 (dk_at dksX8_firstOther_1 9 rfl rfl)
theorem dX8_firstOther_35 : decode cX8_firstOther 35 = .ok (.ireturn, 1) := dk_172 (dk_at dksX8_firstOther_1 11 rfl rfl)
theorem dX8_firstOther_36 : decode cX8_firstOther 36 = .ok (.iinc 4 1, 3) := dk_132 4 1 (dk_at dksX8_firstOther_1 12 rfl rfl)
theorem dX8_firstOther_39 : decode cX8_firstOther 39 = .ok (.goto (-36), 3) := dk_167 255 220 (dk_at dksX8_firstOther_1 15 rfl rfl)
theorem dX8_firstOther_42 : decode cX8_firstOther 42 = .ok (.iconst (-1), 1) := dk_2 (dk_at dksX8_firstOther_1 18 rfl rfl)
theorem dX8_firstOther_43 : decode cX8_firstOther 43 = .ok (.ireturn, 1) := dk_172 (dk_at dksX8_firstOther_1 19 rfl rfl)
abbrev cX8_film : ByteArray := prog_16_method_63_code
def yX8_film : MethodName := ⟨RX8, "film", "(III)I"⟩
def dkwX8_film_3 : List UInt8 := [172]
abbrev dktX8_film_3 : List UInt8 := dkwX8_film_3 ++ []
def dkwX8_film_2 : List UInt8 := [16, 40, 27, 104, 21, 4, 96, 42, 28, 29, 21, 4, 182, 1, 23, 79, 132, 4, 1, 167, 255, 226, 16, 8]
abbrev dktX8_film_2 : List UInt8 := dkwX8_film_2 ++ dktX8_film_3
def dkwX8_film_1 : List UInt8 := [172, 42, 27, 4, 16, 8, 182, 1, 81, 87, 3, 54, 4, 21, 4, 16, 8, 162, 0, 29, 42, 180, 0, 75]
abbrev dktX8_film_1 : List UInt8 := dkwX8_film_1 ++ dktX8_film_2
def dkwX8_film_0 : List UInt8 := [27, 184, 1, 75, 153, 0, 18, 42, 28, 182, 0, 98, 153, 0, 10, 29, 184, 0, 94, 154, 0, 6, 16, 254]
abbrev dktX8_film_0 : List UInt8 := dkwX8_film_0 ++ dktX8_film_1
theorem dksX8_film_0 : cX8_film.data.toList.drop 0 = dktX8_film_0 := by decide +kernel
theorem dksX8_film_1 : cX8_film.data.toList.drop 24 = dktX8_film_1 := dk_seg dksX8_film_0 24 rfl rfl
theorem dksX8_film_2 : cX8_film.data.toList.drop 48 = dktX8_film_2 := dk_seg dksX8_film_1 24 rfl rfl
theorem dksX8_film_3 : cX8_film.data.toList.drop 72 = dktX8_film_3 := dk_seg dksX8_film_2 24 rfl rfl
theorem dX8_film_0 : decode cX8_film 0 = .ok (.iload_n 1, 1) := dk_27 (dk_at dksX8_film_0 0 rfl rfl)
theorem dX8_film_1 : decode cX8_film 1 = .ok (.invokestatic 331, 3) := dk_184 1 75 (dk_at dksX8_film_0 1 rfl rfl)
theorem dX8_film_4 : decode cX8_film 4 = .ok (.ifCond .eq 18, 3) := dk_153 0 18 (dk_at dksX8_film_0 4 rfl rfl)
theorem dX8_film_7 : decode cX8_film 7 = .ok (.aload_n 0, 1) := dk_42 (dk_at dksX8_film_0 7 rfl rfl)
theorem dX8_film_8 : decode cX8_film 8 = .ok (.iload_n 2, 1) := dk_28 (dk_at dksX8_film_0 8 rfl rfl)
theorem dX8_film_9 : decode cX8_film 9 = .ok (.invokevirtual 98, 3) := dk_182 0 98 (dk_at dksX8_film_0 9 rfl rfl)
theorem dX8_film_12 : decode cX8_film 12 = .ok (.ifCond .eq 10, 3) := dk_153 0 10 (dk_at dksX8_film_0 12 rfl rfl)
theorem dX8_film_15 : decode cX8_film 15 = .ok (.iload_n 3, 1) := dk_29 (dk_at dksX8_film_0 15 rfl rfl)
theorem dX8_film_16 : decode cX8_film 16 = .ok (.invokestatic 94, 3) := dk_184 0 94 (dk_at dksX8_film_0 16 rfl rfl)
theorem dX8_film_19 : decode cX8_film 19 = .ok (.ifCond .ne 6, 3) := dk_154 0 6 (dk_at dksX8_film_0 19 rfl rfl)
theorem dX8_film_22 : decode cX8_film 22 = .ok (.bipush (-2), 2) := dk_16 254 (dk_at dksX8_film_0 22 rfl rfl)
theorem dX8_film_24 : decode cX8_film 24 = .ok (.ireturn, 1) := dk_172 (dk_at dksX8_film_1 0 rfl rfl)
theorem dX8_film_25 : decode cX8_film 25 = .ok (.aload_n 0, 1) := dk_42 (dk_at dksX8_film_1 1 rfl rfl)
theorem dX8_film_26 : decode cX8_film 26 = .ok (.iload_n 1, 1) := dk_27 (dk_at dksX8_film_1 2 rfl rfl)
theorem dX8_film_27 : decode cX8_film 27 = .ok (.iconst 1, 1) := dk_4 (dk_at dksX8_film_1 3 rfl rfl)
theorem dX8_film_28 : decode cX8_film 28 = .ok (.bipush 8, 2) := dk_16 8 (dk_at dksX8_film_1 4 rfl rfl)
theorem dX8_film_30 : decode cX8_film 30 = .ok (.invokevirtual 337, 3) := dk_182 1 81 (dk_at dksX8_film_1 6 rfl rfl)
theorem dX8_film_33 : decode cX8_film 33 = .ok (.pop, 1) := dk_87 (dk_at dksX8_film_1 9 rfl rfl)
theorem dX8_film_34 : decode cX8_film 34 = .ok (.iconst 0, 1) := dk_3 (dk_at dksX8_film_1 10 rfl rfl)
theorem dX8_film_35 : decode cX8_film 35 = .ok (.istore 4, 2) := dk_54 4 (dk_at dksX8_film_1 11 rfl rfl)
theorem dX8_film_37 : decode cX8_film 37 = .ok (.iload 4, 2) := dk_21 4 (dk_at dksX8_film_1 13 rfl rfl)
theorem dX8_film_39 : decode cX8_film 39 = .ok (.bipush 8, 2) := dk_16 8 (dk_at dksX8_film_1 15 rfl rfl)
theorem dX8_film_41 : decode cX8_film 41 = .ok (.if_icmp .ge 29, 3) := dk_162 0 29 (dk_at dksX8_film_1 17 rfl rfl)
theorem dX8_film_44 : decode cX8_film 44 = .ok (.aload_n 0, 1) := dk_42 (dk_at dksX8_film_1 20 rfl rfl)
theorem dX8_film_45 : decode cX8_film 45 = .ok (.getfield 75, 3) := dk_180 0 75 (dk_at dksX8_film_1 21 rfl rfl)
theorem dX8_film_48 : decode cX8_film 48 = .ok (.bipush 40, 2) := dk_16 40 (dk_at dksX8_film_2 0 rfl rfl)
theorem dX8_film_50 : decode cX8_film 50 = .ok (.iload_n 1, 1) := dk_27 (dk_at dksX8_film_2 2 rfl rfl)
theorem dX8_film_51 : decode cX8_film 51 = .ok (.imul, 1) := dk_104 (dk_at dksX8_film_2 3 rfl rfl)
theorem dX8_film_52 : decode cX8_film 52 = .ok (.iload 4, 2) := dk_21 4 (dk_at dksX8_film_2 4 rfl rfl)
theorem dX8_film_54 : decode cX8_film 54 = .ok (.iadd, 1) := dk_96 (dk_at dksX8_film_2 6 rfl rfl)
theorem dX8_film_55 : decode cX8_film 55 = .ok (.aload_n 0, 1) := dk_42 (dk_at dksX8_film_2 7 rfl rfl)
theorem dX8_film_56 : decode cX8_film 56 = .ok (.iload_n 2, 1) := dk_28 (dk_at dksX8_film_2 8 rfl rfl)
theorem dX8_film_57 : decode cX8_film 57 = .ok (.iload_n 3, 1) := dk_29 (dk_at dksX8_film_2 9 rfl rfl)
theorem dX8_film_58 : decode cX8_film 58 = .ok (.iload 4, 2) := dk_21 4 (dk_at dksX8_film_2 10 rfl rfl)
theorem dX8_film_60 : decode cX8_film 60 = .ok (.invokevirtual 279, 3) := dk_182 1 23 (dk_at dksX8_film_2 12 rfl rfl)
theorem dX8_film_63 : decode cX8_film 63 = .ok (.iastore, 1) := dk_79 (dk_at dksX8_film_2 15 rfl rfl)
theorem dX8_film_64 : decode cX8_film 64 = .ok (.iinc 4 1, 3) := dk_132 4 1 (dk_at dksX8_film_2 16 rfl rfl)
theorem dX8_film_67 : decode cX8_film 67 = .ok (.goto (-30), 3) := dk_167 255 226 (dk_at dksX8_film_2 19 rfl rfl)
theorem dX8_film_70 : decode cX8_film 70 = .ok (.bipush 8, 2) := dk_16 8 (dk_at dksX8_film_2 22 rfl rfl)
theorem dX8_film_72 : decode cX8_film 72 = .ok (.ireturn, 1) := dk_172 (dk_at dksX8_film_3 0 rfl rfl)
abbrev cX8_sheet : ByteArray := prog_16_method_72_code
def yX8_sheet : MethodName := ⟨RX8, "sheet", "(III)I"⟩
def dkwX8_sheet_4 : List UInt8 := [16, 40, 27, 104, 21, 4, 96, 3, 79, 132, 4, 1, 167, 255, 230, 4, 172]
abbrev dktX8_sheet_4 : List UInt8 := dkwX8_sheet_4 ++ []
def dkwX8_sheet_3 : List UInt8 := [180, 0, 72, 27, 29, 79, 3, 54, 4, 21, 4, 29, 162, 0, 26, 28, 155, 0, 22, 42, 180, 0, 75]
abbrev dktX8_sheet_3 : List UInt8 := dkwX8_sheet_3 ++ dktX8_sheet_4
def dkwX8_sheet_2 : List UInt8 := [180, 0, 66, 27, 28, 155, 0, 7, 4, 167, 0, 4, 3, 84, 42, 180, 0, 69, 27, 28, 79, 42]
abbrev dktX8_sheet_2 : List UInt8 := dkwX8_sheet_2 ++ dktX8_sheet_3
def dkwX8_sheet_1 : List UInt8 := [155, 0, 12, 29, 16, 40, 164, 0, 6, 16, 254, 172, 28, 155, 0, 10, 29, 156, 0, 6, 16, 242, 172, 42]
abbrev dktX8_sheet_1 : List UInt8 := dkwX8_sheet_1 ++ dktX8_sheet_2
def dkwX8_sheet_0 : List UInt8 := [27, 184, 1, 75, 153, 0, 27, 28, 133, 20, 1, 104, 20, 1, 106, 184, 0, 88, 153, 0, 13, 28]
abbrev dktX8_sheet_0 : List UInt8 := dkwX8_sheet_0 ++ dktX8_sheet_1
theorem dksX8_sheet_0 : cX8_sheet.data.toList.drop 0 = dktX8_sheet_0 := by decide +kernel
theorem dksX8_sheet_1 : cX8_sheet.data.toList.drop 22 = dktX8_sheet_1 := dk_seg dksX8_sheet_0 22 rfl rfl
theorem dksX8_sheet_2 : cX8_sheet.data.toList.drop 46 = dktX8_sheet_2 := dk_seg dksX8_sheet_1 24 rfl rfl
theorem dksX8_sheet_3 : cX8_sheet.data.toList.drop 68 = dktX8_sheet_3 := dk_seg dksX8_sheet_2 22 rfl rfl
theorem dksX8_sheet_4 : cX8_sheet.data.toList.drop 91 = dktX8_sheet_4 := dk_seg dksX8_sheet_3 23 rfl rfl
theorem dX8_sheet_0 : decode cX8_sheet 0 = .ok (.iload_n 1, 1) := dk_27 (dk_at dksX8_sheet_0 0 rfl rfl)
theorem dX8_sheet_1 : decode cX8_sheet 1 = .ok (.invokestatic 331, 3) := dk_184 1 75 (dk_at dksX8_sheet_0 1 rfl rfl)
theorem dX8_sheet_4 : decode cX8_sheet 4 = .ok (.ifCond .eq 27, 3) := dk_153 0 27 (dk_at dksX8_sheet_0 4 rfl rfl)
theorem dX8_sheet_7 : decode cX8_sheet 7 = .ok (.iload_n 2, 1) := dk_28 (dk_at dksX8_sheet_0 7 rfl rfl)
theorem dX8_sheet_8 : decode cX8_sheet 8 = .ok (.i2l, 1) := dk_133 (dk_at dksX8_sheet_0 8 rfl rfl)
theorem dX8_sheet_9 : decode cX8_sheet 9 = .ok (.ldc2_w 360, 3) := dk_20 1 104 (dk_at dksX8_sheet_0 9 rfl rfl)
theorem dX8_sheet_12 : decode cX8_sheet 12 = .ok (.ldc2_w 362, 3) := dk_20 1 106 (dk_at dksX8_sheet_0 12 rfl rfl)
theorem dX8_sheet_15 : decode cX8_sheet 15 = .ok (.invokestatic 88, 3) := dk_184 0 88 (dk_at dksX8_sheet_0 15 rfl rfl)
theorem dX8_sheet_18 : decode cX8_sheet 18 = .ok (.ifCond .eq 13, 3) := dk_153 0 13 (dk_at dksX8_sheet_0 18 rfl rfl)
theorem dX8_sheet_21 : decode cX8_sheet 21 = .ok (.iload_n 2, 1) := dk_28 (dk_at dksX8_sheet_0 21 rfl rfl)
theorem dX8_sheet_22 : decode cX8_sheet 22 = .ok (.ifCond .lt 12, 3) := dk_155 0 12 (dk_at dksX8_sheet_1 0 rfl rfl)
theorem dX8_sheet_25 : decode cX8_sheet 25 = .ok (.iload_n 3, 1) := dk_29 (dk_at dksX8_sheet_1 3 rfl rfl)
theorem dX8_sheet_26 : decode cX8_sheet 26 = .ok (.bipush 40, 2) := dk_16 40 (dk_at dksX8_sheet_1 4 rfl rfl)
theorem dX8_sheet_28 : decode cX8_sheet 28 = .ok (.if_icmp .le 6, 3) := dk_164 0 6 (dk_at dksX8_sheet_1 6 rfl rfl)
theorem dX8_sheet_31 : decode cX8_sheet 31 = .ok (.bipush (-2), 2) := dk_16 254 (dk_at dksX8_sheet_1 9 rfl rfl)
theorem dX8_sheet_33 : decode cX8_sheet 33 = .ok (.ireturn, 1) := dk_172 (dk_at dksX8_sheet_1 11 rfl rfl)
theorem dX8_sheet_34 : decode cX8_sheet 34 = .ok (.iload_n 2, 1) := dk_28 (dk_at dksX8_sheet_1 12 rfl rfl)
theorem dX8_sheet_35 : decode cX8_sheet 35 = .ok (.ifCond .lt 10, 3) := dk_155 0 10 (dk_at dksX8_sheet_1 13 rfl rfl)
theorem dX8_sheet_38 : decode cX8_sheet 38 = .ok (.iload_n 3, 1) := dk_29 (dk_at dksX8_sheet_1 16 rfl rfl)
theorem dX8_sheet_39 : decode cX8_sheet 39 = .ok (.ifCond .ge 6, 3) := dk_156 0 6 (dk_at dksX8_sheet_1 17 rfl rfl)
theorem dX8_sheet_42 : decode cX8_sheet 42 = .ok (.bipush (-14), 2) := dk_16 242 (dk_at dksX8_sheet_1 20 rfl rfl)
theorem dX8_sheet_44 : decode cX8_sheet 44 = .ok (.ireturn, 1) := dk_172 (dk_at dksX8_sheet_1 22 rfl rfl)
theorem dX8_sheet_45 : decode cX8_sheet 45 = .ok (.aload_n 0, 1) := dk_42 (dk_at dksX8_sheet_1 23 rfl rfl)
theorem dX8_sheet_46 : decode cX8_sheet 46 = .ok (.getfield 66, 3) := dk_180 0 66 (dk_at dksX8_sheet_2 0 rfl rfl)
theorem dX8_sheet_49 : decode cX8_sheet 49 = .ok (.iload_n 1, 1) := dk_27 (dk_at dksX8_sheet_2 3 rfl rfl)
theorem dX8_sheet_50 : decode cX8_sheet 50 = .ok (.iload_n 2, 1) := dk_28 (dk_at dksX8_sheet_2 4 rfl rfl)
theorem dX8_sheet_51 : decode cX8_sheet 51 = .ok (.ifCond .lt 7, 3) := dk_155 0 7 (dk_at dksX8_sheet_2 5 rfl rfl)
theorem dX8_sheet_54 : decode cX8_sheet 54 = .ok (.iconst 1, 1) := dk_4 (dk_at dksX8_sheet_2 8 rfl rfl)
theorem dX8_sheet_55 : decode cX8_sheet 55 = .ok (.goto 4, 3) := dk_167 0 4 (dk_at dksX8_sheet_2 9 rfl rfl)
theorem dX8_sheet_58 : decode cX8_sheet 58 = .ok (.iconst 0, 1) := dk_3 (dk_at dksX8_sheet_2 12 rfl rfl)
theorem dX8_sheet_59 : decode cX8_sheet 59 = .ok (.bastore, 1) := dk_84 (dk_at dksX8_sheet_2 13 rfl rfl)
theorem dX8_sheet_60 : decode cX8_sheet 60 = .ok (.aload_n 0, 1) := dk_42 (dk_at dksX8_sheet_2 14 rfl rfl)
theorem dX8_sheet_61 : decode cX8_sheet 61 = .ok (.getfield 69, 3) := dk_180 0 69 (dk_at dksX8_sheet_2 15 rfl rfl)
theorem dX8_sheet_64 : decode cX8_sheet 64 = .ok (.iload_n 1, 1) := dk_27 (dk_at dksX8_sheet_2 18 rfl rfl)
theorem dX8_sheet_65 : decode cX8_sheet 65 = .ok (.iload_n 2, 1) := dk_28 (dk_at dksX8_sheet_2 19 rfl rfl)
theorem dX8_sheet_66 : decode cX8_sheet 66 = .ok (.iastore, 1) := dk_79 (dk_at dksX8_sheet_2 20 rfl rfl)
theorem dX8_sheet_67 : decode cX8_sheet 67 = .ok (.aload_n 0, 1) := dk_42 (dk_at dksX8_sheet_2 21 rfl rfl)
theorem dX8_sheet_68 : decode cX8_sheet 68 = .ok (.getfield 72, 3) := dk_180 0 72 (dk_at dksX8_sheet_3 0 rfl rfl)
theorem dX8_sheet_71 : decode cX8_sheet 71 = .ok (.iload_n 1, 1) := dk_27 (dk_at dksX8_sheet_3 3 rfl rfl)
theorem dX8_sheet_72 : decode cX8_sheet 72 = .ok (.iload_n 3, 1) := dk_29 (dk_at dksX8_sheet_3 4 rfl rfl)
theorem dX8_sheet_73 : decode cX8_sheet 73 = .ok (.iastore, 1) := dk_79 (dk_at dksX8_sheet_3 5 rfl rfl)
theorem dX8_sheet_74 : decode cX8_sheet 74 = .ok (.iconst 0, 1) := dk_3 (dk_at dksX8_sheet_3 6 rfl rfl)
theorem dX8_sheet_75 : decode cX8_sheet 75 = .ok (.istore 4, 2) := dk_54 4 (dk_at dksX8_sheet_3 7 rfl rfl)
theorem dX8_sheet_77 : decode cX8_sheet 77 = .ok (.iload 4, 2) := dk_21 4 (dk_at dksX8_sheet_3 9 rfl rfl)
theorem dX8_sheet_79 : decode cX8_sheet 79 = .ok (.iload_n 3, 1) := dk_29 (dk_at dksX8_sheet_3 11 rfl rfl)
theorem dX8_sheet_80 : decode cX8_sheet 80 = .ok (.if_icmp .ge 26, 3) := dk_162 0 26 (dk_at dksX8_sheet_3 12 rfl rfl)
theorem dX8_sheet_83 : decode cX8_sheet 83 = .ok (.iload_n 2, 1) := dk_28 (dk_at dksX8_sheet_3 15 rfl rfl)
theorem dX8_sheet_84 : decode cX8_sheet 84 = .ok (.ifCond .lt 22, 3) := dk_155 0 22 (dk_at dksX8_sheet_3 16 rfl rfl)
theorem dX8_sheet_87 : decode cX8_sheet 87 = .ok (.aload_n 0, 1) := dk_42 (dk_at dksX8_sheet_3 19 rfl rfl)
theorem dX8_sheet_88 : decode cX8_sheet 88 = .ok (.getfield 75, 3) := dk_180 0 75 (dk_at dksX8_sheet_3 20 rfl rfl)
theorem dX8_sheet_91 : decode cX8_sheet 91 = .ok (.bipush 40, 2) := dk_16 40 (dk_at dksX8_sheet_4 0 rfl rfl)
theorem dX8_sheet_93 : decode cX8_sheet 93 = .ok (.iload_n 1, 1) := dk_27 (dk_at dksX8_sheet_4 2 rfl rfl)
theorem dX8_sheet_94 : decode cX8_sheet 94 = .ok (.imul, 1) := dk_104 (dk_at dksX8_sheet_4 3 rfl rfl)
theorem dX8_sheet_95 : decode cX8_sheet 95 = .ok (.iload 4, 2) := dk_21 4 (dk_at dksX8_sheet_4 4 rfl rfl)
theorem dX8_sheet_97 : decode cX8_sheet 97 = .ok (.iadd, 1) := dk_96 (dk_at dksX8_sheet_4 6 rfl rfl)
theorem dX8_sheet_98 : decode cX8_sheet 98 = .ok (.iconst 0, 1) := dk_3 (dk_at dksX8_sheet_4 7 rfl rfl)
theorem dX8_sheet_99 : decode cX8_sheet 99 = .ok (.iastore, 1) := dk_79 (dk_at dksX8_sheet_4 8 rfl rfl)
theorem dX8_sheet_100 : decode cX8_sheet 100 = .ok (.iinc 4 1, 3) := dk_132 4 1 (dk_at dksX8_sheet_4 9 rfl rfl)
theorem dX8_sheet_103 : decode cX8_sheet 103 = .ok (.goto (-26), 3) := dk_167 255 230 (dk_at dksX8_sheet_4 12 rfl rfl)
theorem dX8_sheet_106 : decode cX8_sheet 106 = .ok (.iconst 1, 1) := dk_4 (dk_at dksX8_sheet_4 15 rfl rfl)
theorem dX8_sheet_107 : decode cX8_sheet 107 = .ok (.ireturn, 1) := dk_172 (dk_at dksX8_sheet_4 16 rfl rfl)
abbrev cX8_drawn : ByteArray := prog_16_method_66_code
def yX8_drawn : MethodName := ⟨RX8, "drawn", "(I)I"⟩
def dkwX8_drawn_0 : List UInt8 := [42, 27, 182, 1, 85, 42, 182, 1, 33, 61, 42, 182, 1, 88, 28, 172]
abbrev dktX8_drawn_0 : List UInt8 := dkwX8_drawn_0 ++ []
theorem dksX8_drawn_0 : cX8_drawn.data.toList.drop 0 = dktX8_drawn_0 := by decide +kernel
theorem dX8_drawn_0 : decode cX8_drawn 0 = .ok (.aload_n 0, 1) := dk_42 (dk_at dksX8_drawn_0 0 rfl rfl)
theorem dX8_drawn_1 : decode cX8_drawn 1 = .ok (.iload_n 1, 1) := dk_27 (dk_at dksX8_drawn_0 1 rfl rfl)
theorem dX8_drawn_2 : decode cX8_drawn 2 = .ok (.invokevirtual 341, 3) := dk_182 1 85 (dk_at dksX8_drawn_0 2 rfl rfl)
theorem dX8_drawn_5 : decode cX8_drawn 5 = .ok (.aload_n 0, 1) := dk_42 (dk_at dksX8_drawn_0 5 rfl rfl)
theorem dX8_drawn_6 : decode cX8_drawn 6 = .ok (.invokevirtual 289, 3) := dk_182 1 33 (dk_at dksX8_drawn_0 6 rfl rfl)
theorem dX8_drawn_9 : decode cX8_drawn 9 = .ok (.istore_n 2, 1) := dk_61 (dk_at dksX8_drawn_0 9 rfl rfl)
theorem dX8_drawn_10 : decode cX8_drawn 10 = .ok (.aload_n 0, 1) := dk_42 (dk_at dksX8_drawn_0 10 rfl rfl)
theorem dX8_drawn_11 : decode cX8_drawn 11 = .ok (.invokevirtual 344, 3) := dk_182 1 88 (dk_at dksX8_drawn_0 11 rfl rfl)
theorem dX8_drawn_14 : decode cX8_drawn 14 = .ok (.iload_n 2, 1) := dk_28 (dk_at dksX8_drawn_0 14 rfl rfl)
theorem dX8_drawn_15 : decode cX8_drawn 15 = .ok (.ireturn, 1) := dk_172 (dk_at dksX8_drawn_0 15 rfl rfl)
abbrev cX8_draws : ByteArray := prog_16_method_64_code
def yX8_draws : MethodName := ⟨RX8, "draws", "(I)V"⟩
def dkwX8_draws_2 : List UInt8 := [16, 9, 124, 17, 1, 109, 112, 79, 132, 3, 1, 167, 255, 201, 177]
abbrev dktX8_draws_2 : List UInt8 := dkwX8_draws_2 ++ []
def dkwX8_draws_1 : List UInt8 := [4, 96, 46, 79, 28, 19, 1, 84, 104, 17, 48, 57, 96, 61, 42, 180, 0, 35, 6, 29, 104, 4, 96, 28]
abbrev dktX8_draws_1 : List UInt8 := dkwX8_draws_1 ++ dktX8_draws_2
def dkwX8_draws_0 : List UInt8 := [27, 61, 3, 62, 29, 42, 180, 0, 85, 162, 0, 53, 42, 180, 0, 51, 29, 42, 180, 0, 35, 6, 29, 104]
abbrev dktX8_draws_0 : List UInt8 := dkwX8_draws_0 ++ dktX8_draws_1
theorem dksX8_draws_0 : cX8_draws.data.toList.drop 0 = dktX8_draws_0 := by decide +kernel
theorem dksX8_draws_1 : cX8_draws.data.toList.drop 24 = dktX8_draws_1 := dk_seg dksX8_draws_0 24 rfl rfl
theorem dksX8_draws_2 : cX8_draws.data.toList.drop 48 = dktX8_draws_2 := dk_seg dksX8_draws_1 24 rfl rfl
theorem dX8_draws_0 : decode cX8_draws 0 = .ok (.iload_n 1, 1) := dk_27 (dk_at dksX8_draws_0 0 rfl rfl)
theorem dX8_draws_1 : decode cX8_draws 1 = .ok (.istore_n 2, 1) := dk_61 (dk_at dksX8_draws_0 1 rfl rfl)
theorem dX8_draws_2 : decode cX8_draws 2 = .ok (.iconst 0, 1) := dk_3 (dk_at dksX8_draws_0 2 rfl rfl)
theorem dX8_draws_3 : decode cX8_draws 3 = .ok (.istore_n 3, 1) := dk_62 (dk_at dksX8_draws_0 3 rfl rfl)
theorem dX8_draws_4 : decode cX8_draws 4 = .ok (.iload_n 3, 1) := dk_29 (dk_at dksX8_draws_0 4 rfl rfl)
theorem dX8_draws_5 : decode cX8_draws 5 = .ok (.aload_n 0, 1) := dk_42 (dk_at dksX8_draws_0 5 rfl rfl)
theorem dX8_draws_6 : decode cX8_draws 6 = .ok (.getfield 85, 3) := dk_180 0 85 (dk_at dksX8_draws_0 6 rfl rfl)
theorem dX8_draws_9 : decode cX8_draws 9 = .ok (.if_icmp .ge 53, 3) := dk_162 0 53 (dk_at dksX8_draws_0 9 rfl rfl)
theorem dX8_draws_12 : decode cX8_draws 12 = .ok (.aload_n 0, 1) := dk_42 (dk_at dksX8_draws_0 12 rfl rfl)
theorem dX8_draws_13 : decode cX8_draws 13 = .ok (.getfield 51, 3) := dk_180 0 51 (dk_at dksX8_draws_0 13 rfl rfl)
theorem dX8_draws_16 : decode cX8_draws 16 = .ok (.iload_n 3, 1) := dk_29 (dk_at dksX8_draws_0 16 rfl rfl)
theorem dX8_draws_17 : decode cX8_draws 17 = .ok (.aload_n 0, 1) := dk_42 (dk_at dksX8_draws_0 17 rfl rfl)
theorem dX8_draws_18 : decode cX8_draws 18 = .ok (.getfield 35, 3) := dk_180 0 35 (dk_at dksX8_draws_0 18 rfl rfl)
theorem dX8_draws_21 : decode cX8_draws 21 = .ok (.iconst 3, 1) := dk_6 (dk_at dksX8_draws_0 21 rfl rfl)
theorem dX8_draws_22 : decode cX8_draws 22 = .ok (.iload_n 3, 1) := dk_29 (dk_at dksX8_draws_0 22 rfl rfl)
theorem dX8_draws_23 : decode cX8_draws 23 = .ok (.imul, 1) := dk_104 (dk_at dksX8_draws_0 23 rfl rfl)
theorem dX8_draws_24 : decode cX8_draws 24 = .ok (.iconst 1, 1) := dk_4 (dk_at dksX8_draws_1 0 rfl rfl)
theorem dX8_draws_25 : decode cX8_draws 25 = .ok (.iadd, 1) := dk_96 (dk_at dksX8_draws_1 1 rfl rfl)
theorem dX8_draws_26 : decode cX8_draws 26 = .ok (.iaload, 1) := dk_46 (dk_at dksX8_draws_1 2 rfl rfl)
theorem dX8_draws_27 : decode cX8_draws 27 = .ok (.iastore, 1) := dk_79 (dk_at dksX8_draws_1 3 rfl rfl)
theorem dX8_draws_28 : decode cX8_draws 28 = .ok (.iload_n 2, 1) := dk_28 (dk_at dksX8_draws_1 4 rfl rfl)
theorem dX8_draws_29 : decode cX8_draws 29 = .ok (.ldc_w 340, 3) := dk_19 1 84 (dk_at dksX8_draws_1 5 rfl rfl)
theorem dX8_draws_32 : decode cX8_draws 32 = .ok (.imul, 1) := dk_104 (dk_at dksX8_draws_1 8 rfl rfl)
theorem dX8_draws_33 : decode cX8_draws 33 = .ok (.sipush 12345, 3) := dk_17 48 57 (dk_at dksX8_draws_1 9 rfl rfl)
theorem dX8_draws_36 : decode cX8_draws 36 = .ok (.iadd, 1) := dk_96 (dk_at dksX8_draws_1 12 rfl rfl)
theorem dX8_draws_37 : decode cX8_draws 37 = .ok (.istore_n 2, 1) := dk_61 (dk_at dksX8_draws_1 13 rfl rfl)
theorem dX8_draws_38 : decode cX8_draws 38 = .ok (.aload_n 0, 1) := dk_42 (dk_at dksX8_draws_1 14 rfl rfl)
theorem dX8_draws_39 : decode cX8_draws 39 = .ok (.getfield 35, 3) := dk_180 0 35 (dk_at dksX8_draws_1 15 rfl rfl)
theorem dX8_draws_42 : decode cX8_draws 42 = .ok (.iconst 3, 1) := dk_6 (dk_at dksX8_draws_1 18 rfl rfl)
theorem dX8_draws_43 : decode cX8_draws 43 = .ok (.iload_n 3, 1) := dk_29 (dk_at dksX8_draws_1 19 rfl rfl)
theorem dX8_draws_44 : decode cX8_draws 44 = .ok (.imul, 1) := dk_104 (dk_at dksX8_draws_1 20 rfl rfl)
theorem dX8_draws_45 : decode cX8_draws 45 = .ok (.iconst 1, 1) := dk_4 (dk_at dksX8_draws_1 21 rfl rfl)
theorem dX8_draws_46 : decode cX8_draws 46 = .ok (.iadd, 1) := dk_96 (dk_at dksX8_draws_1 22 rfl rfl)
theorem dX8_draws_47 : decode cX8_draws 47 = .ok (.iload_n 2, 1) := dk_28 (dk_at dksX8_draws_1 23 rfl rfl)
theorem dX8_draws_48 : decode cX8_draws 48 = .ok (.bipush 9, 2) := dk_16 9 (dk_at dksX8_draws_2 0 rfl rfl)
theorem dX8_draws_50 : decode cX8_draws 50 = .ok (.iushr, 1) := dk_124 (dk_at dksX8_draws_2 2 rfl rfl)
theorem dX8_draws_51 : decode cX8_draws 51 = .ok (.sipush 365, 3) := dk_17 1 109 (dk_at dksX8_draws_2 3 rfl rfl)
theorem dX8_draws_54 : decode cX8_draws 54 = .ok (.irem, 1) := dk_112 (dk_at dksX8_draws_2 6 rfl rfl)
theorem dX8_draws_55 : decode cX8_draws 55 = .ok (.iastore, 1) := dk_79 (dk_at dksX8_draws_2 7 rfl rfl)
theorem dX8_draws_56 : decode cX8_draws 56 = .ok (.iinc 3 1, 3) := dk_132 3 1 (dk_at dksX8_draws_2 8 rfl rfl)
theorem dX8_draws_59 : decode cX8_draws 59 = .ok (.goto (-55), 3) := dk_167 255 201 (dk_at dksX8_draws_2 11 rfl rfl)
theorem dX8_draws_62 : decode cX8_draws 62 = .ok (.return_, 1) := dk_177 (dk_at dksX8_draws_2 14 rfl rfl)
abbrev cX8_laysBack : ByteArray := prog_16_method_65_code
def yX8_laysBack : MethodName := ⟨RX8, "laysBack", "()V"⟩
def dkwX8_laysBack_1 : List UInt8 := [46, 79, 132, 1, 1, 167, 255, 229, 177]
abbrev dktX8_laysBack_1 : List UInt8 := dkwX8_laysBack_1 ++ []
def dkwX8_laysBack_0 : List UInt8 := [3, 60, 27, 42, 180, 0, 85, 162, 0, 25, 42, 180, 0, 35, 6, 27, 104, 4, 96, 42, 180, 0, 51, 27]
abbrev dktX8_laysBack_0 : List UInt8 := dkwX8_laysBack_0 ++ dktX8_laysBack_1
theorem dksX8_laysBack_0 : cX8_laysBack.data.toList.drop 0 = dktX8_laysBack_0 := by decide +kernel
theorem dksX8_laysBack_1 : cX8_laysBack.data.toList.drop 24 = dktX8_laysBack_1 := dk_seg dksX8_laysBack_0 24 rfl rfl
theorem dX8_laysBack_0 : decode cX8_laysBack 0 = .ok (.iconst 0, 1) := dk_3 (dk_at dksX8_laysBack_0 0 rfl rfl)
theorem dX8_laysBack_1 : decode cX8_laysBack 1 = .ok (.istore_n 1, 1) := dk_60 (dk_at dksX8_laysBack_0 1 rfl rfl)
theorem dX8_laysBack_2 : decode cX8_laysBack 2 = .ok (.iload_n 1, 1) := dk_27 (dk_at dksX8_laysBack_0 2 rfl rfl)
theorem dX8_laysBack_3 : decode cX8_laysBack 3 = .ok (.aload_n 0, 1) := dk_42 (dk_at dksX8_laysBack_0 3 rfl rfl)
theorem dX8_laysBack_4 : decode cX8_laysBack 4 = .ok (.getfield 85, 3) := dk_180 0 85 (dk_at dksX8_laysBack_0 4 rfl rfl)
theorem dX8_laysBack_7 : decode cX8_laysBack 7 = .ok (.if_icmp .ge 25, 3) := dk_162 0 25 (dk_at dksX8_laysBack_0 7 rfl rfl)
theorem dX8_laysBack_10 : decode cX8_laysBack 10 = .ok (.aload_n 0, 1) := dk_42 (dk_at dksX8_laysBack_0 10 rfl rfl)
theorem dX8_laysBack_11 : decode cX8_laysBack 11 = .ok (.getfield 35, 3) := dk_180 0 35 (dk_at dksX8_laysBack_0 11 rfl rfl)
theorem dX8_laysBack_14 : decode cX8_laysBack 14 = .ok (.iconst 3, 1) := dk_6 (dk_at dksX8_laysBack_0 14 rfl rfl)
theorem dX8_laysBack_15 : decode cX8_laysBack 15 = .ok (.iload_n 1, 1) := dk_27 (dk_at dksX8_laysBack_0 15 rfl rfl)
theorem dX8_laysBack_16 : decode cX8_laysBack 16 = .ok (.imul, 1) := dk_104 (dk_at dksX8_laysBack_0 16 rfl rfl)
theorem dX8_laysBack_17 : decode cX8_laysBack 17 = .ok (.iconst 1, 1) := dk_4 (dk_at dksX8_laysBack_0 17 rfl rfl)
theorem dX8_laysBack_18 : decode cX8_laysBack 18 = .ok (.iadd, 1) := dk_96 (dk_at dksX8_laysBack_0 18 rfl rfl)
theorem dX8_laysBack_19 : decode cX8_laysBack 19 = .ok (.aload_n 0, 1) := dk_42 (dk_at dksX8_laysBack_0 19 rfl rfl)
theorem dX8_laysBack_20 : decode cX8_laysBack 20 = .ok (.getfield 51, 3) := dk_180 0 51 (dk_at dksX8_laysBack_0 20 rfl rfl)
theorem dX8_laysBack_23 : decode cX8_laysBack 23 = .ok (.iload_n 1, 1) := dk_27 (dk_at dksX8_laysBack_0 23 rfl rfl)
theorem dX8_laysBack_24 : decode cX8_laysBack 24 = .ok (.iaload, 1) := dk_46 (dk_at dksX8_laysBack_1 0 rfl rfl)
theorem dX8_laysBack_25 : decode cX8_laysBack 25 = .ok (.iastore, 1) := dk_79 (dk_at dksX8_laysBack_1 1 rfl rfl)
theorem dX8_laysBack_26 : decode cX8_laysBack 26 = .ok (.iinc 1 1, 3) := dk_132 1 1 (dk_at dksX8_laysBack_1 2 rfl rfl)
theorem dX8_laysBack_29 : decode cX8_laysBack 29 = .ok (.goto (-27), 3) := dk_167 255 229 (dk_at dksX8_laysBack_1 5 rfl rfl)
theorem dX8_laysBack_32 : decode cX8_laysBack 32 = .ok (.return_, 1) := dk_177 (dk_at dksX8_laysBack_1 8 rfl rfl)
abbrev cX8_chance : ByteArray := prog_16_method_67_code
def yX8_chance : MethodName := ⟨RX8, "chance", "(III)J"⟩
def dkwX8_chance_5 : List UInt8 := [167, 0, 8, 28, 133, 22, 6, 109, 173]
abbrev dktX8_chance_5 : List UInt8 := dkwX8_chance_5 ++ []
def dkwX8_chance_4 : List UInt8 := [55, 10, 22, 8, 55, 6, 22, 10, 55, 8, 167, 255, 234, 29, 154, 0, 11, 22, 4, 22, 6, 109]
abbrev dktX8_chance_4 : List UInt8 := dkwX8_chance_4 ++ dktX8_chance_5
def dkwX8_chance_3 : List UInt8 := [167, 255, 218, 22, 4, 55, 6, 28, 133, 55, 8, 22, 8, 9, 148, 153, 0, 21, 22, 6, 22, 8, 113]
abbrev dktX8_chance_3 : List UInt8 := dkwX8_chance_3 ++ dktX8_chance_4
def dkwX8_chance_2 : List UInt8 := [22, 4, 42, 182, 1, 36, 154, 0, 7, 10, 167, 0, 4, 9, 97, 55, 4, 42, 182, 1, 88, 132, 6, 1]
abbrev dktX8_chance_2 : List UInt8 := dkwX8_chance_2 ++ dktX8_chance_3
def dkwX8_chance_1 : List UInt8 := [20, 1, 93, 173, 9, 55, 4, 3, 54, 6, 21, 6, 28, 162, 0, 38, 42, 27, 21, 6, 96, 182, 1, 85]
abbrev dktX8_chance_1 : List UInt8 := dkwX8_chance_1 ++ dktX8_chance_2
def dkwX8_chance_0 : List UInt8 := [28, 133, 10, 20, 1, 91, 184, 0, 88, 153, 0, 13, 29, 133, 9, 10, 184, 0, 88, 154, 0, 7]
abbrev dktX8_chance_0 : List UInt8 := dkwX8_chance_0 ++ dktX8_chance_1
theorem dksX8_chance_0 : cX8_chance.data.toList.drop 0 = dktX8_chance_0 := by decide +kernel
theorem dksX8_chance_1 : cX8_chance.data.toList.drop 22 = dktX8_chance_1 := dk_seg dksX8_chance_0 22 rfl rfl
theorem dksX8_chance_2 : cX8_chance.data.toList.drop 46 = dktX8_chance_2 := dk_seg dksX8_chance_1 24 rfl rfl
theorem dksX8_chance_3 : cX8_chance.data.toList.drop 70 = dktX8_chance_3 := dk_seg dksX8_chance_2 24 rfl rfl
theorem dksX8_chance_4 : cX8_chance.data.toList.drop 93 = dktX8_chance_4 := dk_seg dksX8_chance_3 23 rfl rfl
theorem dksX8_chance_5 : cX8_chance.data.toList.drop 115 = dktX8_chance_5 := dk_seg dksX8_chance_4 22 rfl rfl
theorem dX8_chance_0 : decode cX8_chance 0 = .ok (.iload_n 2, 1) := dk_28 (dk_at dksX8_chance_0 0 rfl rfl)
theorem dX8_chance_1 : decode cX8_chance 1 = .ok (.i2l, 1) := dk_133 (dk_at dksX8_chance_0 1 rfl rfl)
theorem dX8_chance_2 : decode cX8_chance 2 = .ok (.lconst 1, 1) := dk_10 (dk_at dksX8_chance_0 2 rfl rfl)
theorem dX8_chance_3 : decode cX8_chance 3 = .ok (.ldc2_w 347, 3) := dk_20 1 91 (dk_at dksX8_chance_0 3 rfl rfl)
theorem dX8_chance_6 : decode cX8_chance 6 = .ok (.invokestatic 88, 3) := dk_184 0 88 (dk_at dksX8_chance_0 6 rfl rfl)
theorem dX8_chance_9 : decode cX8_chance 9 = .ok (.ifCond .eq 13, 3) := dk_153 0 13 (dk_at dksX8_chance_0 9 rfl rfl)
theorem dX8_chance_12 : decode cX8_chance 12 = .ok (.iload_n 3, 1) := dk_29 (dk_at dksX8_chance_0 12 rfl rfl)
theorem dX8_chance_13 : decode cX8_chance 13 = .ok (.i2l, 1) := dk_133 (dk_at dksX8_chance_0 13 rfl rfl)
theorem dX8_chance_14 : decode cX8_chance 14 = .ok (.lconst 0, 1) := dk_9 (dk_at dksX8_chance_0 14 rfl rfl)
theorem dX8_chance_15 : decode cX8_chance 15 = .ok (.lconst 1, 1) := dk_10 (dk_at dksX8_chance_0 15 rfl rfl)
theorem dX8_chance_16 : decode cX8_chance 16 = .ok (.invokestatic 88, 3) := dk_184 0 88 (dk_at dksX8_chance_0 16 rfl rfl)
theorem dX8_chance_19 : decode cX8_chance 19 = .ok (.ifCond .ne 7, 3) := dk_154 0 7 (dk_at dksX8_chance_0 19 rfl rfl)
theorem dX8_chance_22 : decode cX8_chance 22 = .ok (.ldc2_w 349, 3) := dk_20 1 93 (dk_at dksX8_chance_1 0 rfl rfl)
theorem dX8_chance_25 : decode cX8_chance 25 = .ok (.lreturn, 1) := dk_173 (dk_at dksX8_chance_1 3 rfl rfl)
theorem dX8_chance_26 : decode cX8_chance 26 = .ok (.lconst 0, 1) := dk_9 (dk_at dksX8_chance_1 4 rfl rfl)
theorem dX8_chance_27 : decode cX8_chance 27 = .ok (.lstore 4, 2) := dk_55 4 (dk_at dksX8_chance_1 5 rfl rfl)
theorem dX8_chance_29 : decode cX8_chance 29 = .ok (.iconst 0, 1) := dk_3 (dk_at dksX8_chance_1 7 rfl rfl)
theorem dX8_chance_30 : decode cX8_chance 30 = .ok (.istore 6, 2) := dk_54 6 (dk_at dksX8_chance_1 8 rfl rfl)
theorem dX8_chance_32 : decode cX8_chance 32 = .ok (.iload 6, 2) := dk_21 6 (dk_at dksX8_chance_1 10 rfl rfl)
theorem dX8_chance_34 : decode cX8_chance 34 = .ok (.iload_n 2, 1) := dk_28 (dk_at dksX8_chance_1 12 rfl rfl)
theorem dX8_chance_35 : decode cX8_chance 35 = .ok (.if_icmp .ge 38, 3) := dk_162 0 38 (dk_at dksX8_chance_1 13 rfl rfl)
theorem dX8_chance_38 : decode cX8_chance 38 = .ok (.aload_n 0, 1) := dk_42 (dk_at dksX8_chance_1 16 rfl rfl)
theorem dX8_chance_39 : decode cX8_chance 39 = .ok (.iload_n 1, 1) := dk_27 (dk_at dksX8_chance_1 17 rfl rfl)
theorem dX8_chance_40 : decode cX8_chance 40 = .ok (.iload 6, 2) := dk_21 6 (dk_at dksX8_chance_1 18 rfl rfl)
theorem dX8_chance_42 : decode cX8_chance 42 = .ok (.iadd, 1) := dk_96 (dk_at dksX8_chance_1 20 rfl rfl)
theorem dX8_chance_43 : decode cX8_chance 43 = .ok (.invokevirtual 341, 3) := dk_182 1 85 (dk_at dksX8_chance_1 21 rfl rfl)
theorem dX8_chance_46 : decode cX8_chance 46 = .ok (.lload 4, 2) := dk_22 4 (dk_at dksX8_chance_2 0 rfl rfl)
theorem dX8_chance_48 : decode cX8_chance 48 = .ok (.aload_n 0, 1) := dk_42 (dk_at dksX8_chance_2 2 rfl rfl)
theorem dX8_chance_49 : decode cX8_chance 49 = .ok (.invokevirtual 292, 3) := dk_182 1 36 (dk_at dksX8_chance_2 3 rfl rfl)
theorem dX8_chance_52 : decode cX8_chance 52 = .ok (.ifCond .ne 7, 3) := dk_154 0 7 (dk_at dksX8_chance_2 6 rfl rfl)
theorem dX8_chance_55 : decode cX8_chance 55 = .ok (.lconst 1, 1) := dk_10 (dk_at dksX8_chance_2 9 rfl rfl)
theorem dX8_chance_56 : decode cX8_chance 56 = .ok (.goto 4, 3) := dk_167 0 4 (dk_at dksX8_chance_2 10 rfl rfl)
theorem dX8_chance_59 : decode cX8_chance 59 = .ok (.lconst 0, 1) := dk_9 (dk_at dksX8_chance_2 13 rfl rfl)
theorem dX8_chance_60 : decode cX8_chance 60 = .ok (.ladd, 1) := dk_97 (dk_at dksX8_chance_2 14 rfl rfl)
theorem dX8_chance_61 : decode cX8_chance 61 = .ok (.lstore 4, 2) := dk_55 4 (dk_at dksX8_chance_2 15 rfl rfl)
theorem dX8_chance_63 : decode cX8_chance 63 = .ok (.aload_n 0, 1) := dk_42 (dk_at dksX8_chance_2 17 rfl rfl)
theorem dX8_chance_64 : decode cX8_chance 64 = .ok (.invokevirtual 344, 3) := dk_182 1 88 (dk_at dksX8_chance_2 18 rfl rfl)
theorem dX8_chance_67 : decode cX8_chance 67 = .ok (.iinc 6 1, 3) := dk_132 6 1 (dk_at dksX8_chance_2 21 rfl rfl)
theorem dX8_chance_70 : decode cX8_chance 70 = .ok (.goto (-38), 3) := dk_167 255 218 (dk_at dksX8_chance_3 0 rfl rfl)
theorem dX8_chance_73 : decode cX8_chance 73 = .ok (.lload 4, 2) := dk_22 4 (dk_at dksX8_chance_3 3 rfl rfl)
theorem dX8_chance_75 : decode cX8_chance 75 = .ok (.lstore 6, 2) := dk_55 6 (dk_at dksX8_chance_3 5 rfl rfl)
theorem dX8_chance_77 : decode cX8_chance 77 = .ok (.iload_n 2, 1) := dk_28 (dk_at dksX8_chance_3 7 rfl rfl)
theorem dX8_chance_78 : decode cX8_chance 78 = .ok (.i2l, 1) := dk_133 (dk_at dksX8_chance_3 8 rfl rfl)
theorem dX8_chance_79 : decode cX8_chance 79 = .ok (.lstore 8, 2) := dk_55 8 (dk_at dksX8_chance_3 9 rfl rfl)
theorem dX8_chance_81 : decode cX8_chance 81 = .ok (.lload 8, 2) := dk_22 8 (dk_at dksX8_chance_3 11 rfl rfl)
theorem dX8_chance_83 : decode cX8_chance 83 = .ok (.lconst 0, 1) := dk_9 (dk_at dksX8_chance_3 13 rfl rfl)
theorem dX8_chance_84 : decode cX8_chance 84 = .ok (.lcmp, 1) := dk_148 (dk_at dksX8_chance_3 14 rfl rfl)
theorem dX8_chance_85 : decode cX8_chance 85 = .ok (.ifCond .eq 21, 3) := dk_153 0 21 (dk_at dksX8_chance_3 15 rfl rfl)
theorem dX8_chance_88 : decode cX8_chance 88 = .ok (.lload 6, 2) := dk_22 6 (dk_at dksX8_chance_3 18 rfl rfl)
theorem dX8_chance_90 : decode cX8_chance 90 = .ok (.lload 8, 2) := dk_22 8 (dk_at dksX8_chance_3 20 rfl rfl)
theorem dX8_chance_92 : decode cX8_chance 92 = .ok (.lrem, 1) := dk_113 (dk_at dksX8_chance_3 22 rfl rfl)
theorem dX8_chance_93 : decode cX8_chance 93 = .ok (.lstore 10, 2) := dk_55 10 (dk_at dksX8_chance_4 0 rfl rfl)
theorem dX8_chance_95 : decode cX8_chance 95 = .ok (.lload 8, 2) := dk_22 8 (dk_at dksX8_chance_4 2 rfl rfl)
theorem dX8_chance_97 : decode cX8_chance 97 = .ok (.lstore 6, 2) := dk_55 6 (dk_at dksX8_chance_4 4 rfl rfl)
theorem dX8_chance_99 : decode cX8_chance 99 = .ok (.lload 10, 2) := dk_22 10 (dk_at dksX8_chance_4 6 rfl rfl)
theorem dX8_chance_101 : decode cX8_chance 101 = .ok (.lstore 8, 2) := dk_55 8 (dk_at dksX8_chance_4 8 rfl rfl)
theorem dX8_chance_103 : decode cX8_chance 103 = .ok (.goto (-22), 3) := dk_167 255 234 (dk_at dksX8_chance_4 10 rfl rfl)
theorem dX8_chance_106 : decode cX8_chance 106 = .ok (.iload_n 3, 1) := dk_29 (dk_at dksX8_chance_4 13 rfl rfl)
theorem dX8_chance_107 : decode cX8_chance 107 = .ok (.ifCond .ne 11, 3) := dk_154 0 11 (dk_at dksX8_chance_4 14 rfl rfl)
theorem dX8_chance_110 : decode cX8_chance 110 = .ok (.lload 4, 2) := dk_22 4 (dk_at dksX8_chance_4 17 rfl rfl)
theorem dX8_chance_112 : decode cX8_chance 112 = .ok (.lload 6, 2) := dk_22 6 (dk_at dksX8_chance_4 19 rfl rfl)
theorem dX8_chance_114 : decode cX8_chance 114 = .ok (.ldiv, 1) := dk_109 (dk_at dksX8_chance_4 21 rfl rfl)
theorem dX8_chance_115 : decode cX8_chance 115 = .ok (.goto 8, 3) := dk_167 0 8 (dk_at dksX8_chance_5 0 rfl rfl)
theorem dX8_chance_118 : decode cX8_chance 118 = .ok (.iload_n 2, 1) := dk_28 (dk_at dksX8_chance_5 3 rfl rfl)
theorem dX8_chance_119 : decode cX8_chance 119 = .ok (.i2l, 1) := dk_133 (dk_at dksX8_chance_5 4 rfl rfl)
theorem dX8_chance_120 : decode cX8_chance 120 = .ok (.lload 6, 2) := dk_22 6 (dk_at dksX8_chance_5 5 rfl rfl)
theorem dX8_chance_122 : decode cX8_chance 122 = .ok (.ldiv, 1) := dk_109 (dk_at dksX8_chance_5 7 rfl rfl)
theorem dX8_chance_123 : decode cX8_chance 123 = .ok (.lreturn, 1) := dk_173 (dk_at dksX8_chance_5 8 rfl rfl)
abbrev cX8_image : ByteArray := prog_16_method_68_code
def yX8_image : MethodName := ⟨RX8, "image", "()I"⟩
def dkwX8_image_4 : List UInt8 := [181, 1, 101, 42, 180, 0, 85, 172]
abbrev dktX8_image_4 : List UInt8 := dkwX8_image_4 ++ []
def dkwX8_image_3 : List UInt8 := [181, 0, 63, 42, 42, 180, 0, 23, 181, 1, 95, 42, 42, 180, 0, 128, 181, 1, 98, 42, 42, 180, 0, 119]
abbrev dktX8_image_3 : List UInt8 := dkwX8_image_3 ++ dktX8_image_4
def dkwX8_image_2 : List UInt8 := [180, 0, 60, 27, 42, 180, 0, 29, 27, 46, 79, 132, 1, 1, 167, 255, 224, 42, 42, 180, 0, 85]
abbrev dktX8_image_2 : List UInt8 := dkwX8_image_2 ++ dktX8_image_3
def dkwX8_image_1 : List UInt8 := [167, 255, 235, 3, 60, 27, 7, 162, 0, 33, 42, 180, 0, 57, 27, 42, 180, 0, 26, 27, 46, 79, 42]
abbrev dktX8_image_1 : List UInt8 := dkwX8_image_1 ++ dktX8_image_2
def dkwX8_image_0 : List UInt8 := [3, 60, 27, 16, 18, 162, 0, 21, 42, 180, 0, 54, 27, 42, 180, 0, 35, 27, 46, 79, 132, 1, 1]
abbrev dktX8_image_0 : List UInt8 := dkwX8_image_0 ++ dktX8_image_1
theorem dksX8_image_0 : cX8_image.data.toList.drop 0 = dktX8_image_0 := by decide +kernel
theorem dksX8_image_1 : cX8_image.data.toList.drop 23 = dktX8_image_1 := dk_seg dksX8_image_0 23 rfl rfl
theorem dksX8_image_2 : cX8_image.data.toList.drop 46 = dktX8_image_2 := dk_seg dksX8_image_1 23 rfl rfl
theorem dksX8_image_3 : cX8_image.data.toList.drop 68 = dktX8_image_3 := dk_seg dksX8_image_2 22 rfl rfl
theorem dksX8_image_4 : cX8_image.data.toList.drop 92 = dktX8_image_4 := dk_seg dksX8_image_3 24 rfl rfl
theorem dX8_image_0 : decode cX8_image 0 = .ok (.iconst 0, 1) := dk_3 (dk_at dksX8_image_0 0 rfl rfl)
theorem dX8_image_1 : decode cX8_image 1 = .ok (.istore_n 1, 1) := dk_60 (dk_at dksX8_image_0 1 rfl rfl)
theorem dX8_image_2 : decode cX8_image 2 = .ok (.iload_n 1, 1) := dk_27 (dk_at dksX8_image_0 2 rfl rfl)
theorem dX8_image_3 : decode cX8_image 3 = .ok (.bipush 18, 2) := dk_16 18 (dk_at dksX8_image_0 3 rfl rfl)
theorem dX8_image_5 : decode cX8_image 5 = .ok (.if_icmp .ge 21, 3) := dk_162 0 21 (dk_at dksX8_image_0 5 rfl rfl)
theorem dX8_image_8 : decode cX8_image 8 = .ok (.aload_n 0, 1) := dk_42 (dk_at dksX8_image_0 8 rfl rfl)
theorem dX8_image_9 : decode cX8_image 9 = .ok (.getfield 54, 3) := dk_180 0 54 (dk_at dksX8_image_0 9 rfl rfl)
theorem dX8_image_12 : decode cX8_image 12 = .ok (.iload_n 1, 1) := dk_27 (dk_at dksX8_image_0 12 rfl rfl)
theorem dX8_image_13 : decode cX8_image 13 = .ok (.aload_n 0, 1) := dk_42 (dk_at dksX8_image_0 13 rfl rfl)
theorem dX8_image_14 : decode cX8_image 14 = .ok (.getfield 35, 3) := dk_180 0 35 (dk_at dksX8_image_0 14 rfl rfl)
theorem dX8_image_17 : decode cX8_image 17 = .ok (.iload_n 1, 1) := dk_27 (dk_at dksX8_image_0 17 rfl rfl)
theorem dX8_image_18 : decode cX8_image 18 = .ok (.iaload, 1) := dk_46 (dk_at dksX8_image_0 18 rfl rfl)
theorem dX8_image_19 : decode cX8_image 19 = .ok (.iastore, 1) := dk_79 (dk_at dksX8_image_0 19 rfl rfl)
theorem dX8_image_20 : decode cX8_image 20 = .ok (.iinc 1 1, 3) := dk_132 1 1 (dk_at dksX8_image_0 20 rfl rfl)
theorem dX8_image_23 : decode cX8_image 23 = .ok (.goto (-21), 3) := dk_167 255 235 (dk_at dksX8_image_1 0 rfl rfl)
theorem dX8_image_26 : decode cX8_image 26 = .ok (.iconst 0, 1) := dk_3 (dk_at dksX8_image_1 3 rfl rfl)
theorem dX8_image_27 : decode cX8_image 27 = .ok (.istore_n 1, 1) := dk_60 (dk_at dksX8_image_1 4 rfl rfl)
theorem dX8_image_28 : decode cX8_image 28 = .ok (.iload_n 1, 1) := dk_27 (dk_at dksX8_image_1 5 rfl rfl)
theorem dX8_image_29 : decode cX8_image 29 = .ok (.iconst 4, 1) := dk_7 (dk_at dksX8_image_1 6 rfl rfl)
theorem dX8_image_30 : decode cX8_image 30 = .ok (.if_icmp .ge 33, 3) := dk_162 0 33 (dk_at dksX8_image_1 7 rfl rfl)
theorem dX8_image_33 : decode cX8_image 33 = .ok (.aload_n 0, 1) := dk_42 (dk_at dksX8_image_1 10 rfl rfl)
theorem dX8_image_34 : decode cX8_image 34 = .ok (.getfield 57, 3) := dk_180 0 57 (dk_at dksX8_image_1 11 rfl rfl)
theorem dX8_image_37 : decode cX8_image 37 = .ok (.iload_n 1, 1) := dk_27 (dk_at dksX8_image_1 14 rfl rfl)
theorem dX8_image_38 : decode cX8_image 38 = .ok (.aload_n 0, 1) := dk_42 (dk_at dksX8_image_1 15 rfl rfl)
theorem dX8_image_39 : decode cX8_image 39 = .ok (.getfield 26, 3) := dk_180 0 26 (dk_at dksX8_image_1 16 rfl rfl)
theorem dX8_image_42 : decode cX8_image 42 = .ok (.iload_n 1, 1) := dk_27 (dk_at dksX8_image_1 19 rfl rfl)
theorem dX8_image_43 : decode cX8_image 43 = .ok (.iaload, 1) := dk_46 (dk_at dksX8_image_1 20 rfl rfl)
theorem dX8_image_44 : decode cX8_image 44 = .ok (.iastore, 1) := dk_79 (dk_at dksX8_image_1 21 rfl rfl)
theorem dX8_image_45 : decode cX8_image 45 = .ok (.aload_n 0, 1) := dk_42 (dk_at dksX8_image_1 22 rfl rfl)
theorem dX8_image_46 : decode cX8_image 46 = .ok (.getfield 60, 3) := dk_180 0 60 (dk_at dksX8_image_2 0 rfl rfl)
theorem dX8_image_49 : decode cX8_image 49 = .ok (.iload_n 1, 1) := dk_27 (dk_at dksX8_image_2 3 rfl rfl)
theorem dX8_image_50 : decode cX8_image 50 = .ok (.aload_n 0, 1) := dk_42 (dk_at dksX8_image_2 4 rfl rfl)
theorem dX8_image_51 : decode cX8_image 51 = .ok (.getfield 29, 3) := dk_180 0 29 (dk_at dksX8_image_2 5 rfl rfl)
theorem dX8_image_54 : decode cX8_image 54 = .ok (.iload_n 1, 1) := dk_27 (dk_at dksX8_image_2 8 rfl rfl)
theorem dX8_image_55 : decode cX8_image 55 = .ok (.iaload, 1) := dk_46 (dk_at dksX8_image_2 9 rfl rfl)
theorem dX8_image_56 : decode cX8_image 56 = .ok (.iastore, 1) := dk_79 (dk_at dksX8_image_2 10 rfl rfl)
theorem dX8_image_57 : decode cX8_image 57 = .ok (.iinc 1 1, 3) := dk_132 1 1 (dk_at dksX8_image_2 11 rfl rfl)
theorem dX8_image_60 : decode cX8_image 60 = .ok (.goto (-32), 3) := dk_167 255 224 (dk_at dksX8_image_2 14 rfl rfl)
theorem dX8_image_63 : decode cX8_image 63 = .ok (.aload_n 0, 1) := dk_42 (dk_at dksX8_image_2 17 rfl rfl)
theorem dX8_image_64 : decode cX8_image 64 = .ok (.aload_n 0, 1) := dk_42 (dk_at dksX8_image_2 18 rfl rfl)
theorem dX8_image_65 : decode cX8_image 65 = .ok (.getfield 85, 3) := dk_180 0 85 (dk_at dksX8_image_2 19 rfl rfl)
theorem dX8_image_68 : decode cX8_image 68 = .ok (.putfield 63, 3) := dk_181 0 63 (dk_at dksX8_image_3 0 rfl rfl)
theorem dX8_image_71 : decode cX8_image 71 = .ok (.aload_n 0, 1) := dk_42 (dk_at dksX8_image_3 3 rfl rfl)
theorem dX8_image_72 : decode cX8_image 72 = .ok (.aload_n 0, 1) := dk_42 (dk_at dksX8_image_3 4 rfl rfl)
theorem dX8_image_73 : decode cX8_image 73 = .ok (.getfield 23, 3) := dk_180 0 23 (dk_at dksX8_image_3 5 rfl rfl)
theorem dX8_image_76 : decode cX8_image 76 = .ok (.putfield 351, 3) := dk_181 1 95 (dk_at dksX8_image_3 8 rfl rfl)
theorem dX8_image_79 : decode cX8_image 79 = .ok (.aload_n 0, 1) := dk_42 (dk_at dksX8_image_3 11 rfl rfl)
theorem dX8_image_80 : decode cX8_image 80 = .ok (.aload_n 0, 1) := dk_42 (dk_at dksX8_image_3 12 rfl rfl)
theorem dX8_image_81 : decode cX8_image 81 = .ok (.getfield 128, 3) := dk_180 0 128 (dk_at dksX8_image_3 13 rfl rfl)
theorem dX8_image_84 : decode cX8_image 84 = .ok (.putfield 354, 3) := dk_181 1 98 (dk_at dksX8_image_3 16 rfl rfl)
theorem dX8_image_87 : decode cX8_image 87 = .ok (.aload_n 0, 1) := dk_42 (dk_at dksX8_image_3 19 rfl rfl)
theorem dX8_image_88 : decode cX8_image 88 = .ok (.aload_n 0, 1) := dk_42 (dk_at dksX8_image_3 20 rfl rfl)
theorem dX8_image_89 : decode cX8_image 89 = .ok (.getfield 119, 3) := dk_180 0 119 (dk_at dksX8_image_3 21 rfl rfl)
theorem dX8_image_92 : decode cX8_image 92 = .ok (.putfield 357, 3) := dk_181 1 101 (dk_at dksX8_image_4 0 rfl rfl)
theorem dX8_image_95 : decode cX8_image 95 = .ok (.aload_n 0, 1) := dk_42 (dk_at dksX8_image_4 3 rfl rfl)
theorem dX8_image_96 : decode cX8_image 96 = .ok (.getfield 85, 3) := dk_180 0 85 (dk_at dksX8_image_4 4 rfl rfl)
theorem dX8_image_99 : decode cX8_image 99 = .ok (.ireturn, 1) := dk_172 (dk_at dksX8_image_4 7 rfl rfl)
abbrev cX8_back : ByteArray := prog_16_method_69_code
def yX8_back : MethodName := ⟨RX8, "back", "()I"⟩
def dkwX8_back_4 : List UInt8 := [181, 0, 128, 42, 42, 180, 1, 101, 181, 0, 119, 42, 180, 0, 85, 172]
abbrev dktX8_back_4 : List UInt8 := dkwX8_back_4 ++ []
def dkwX8_back_3 : List UInt8 := [167, 255, 224, 42, 42, 180, 0, 63, 181, 0, 85, 42, 42, 180, 1, 95, 181, 0, 23, 42, 42, 180, 1, 98]
abbrev dktX8_back_3 : List UInt8 := dkwX8_back_3 ++ dktX8_back_4
def dkwX8_back_2 : List UInt8 := [27, 42, 180, 0, 57, 27, 46, 79, 42, 180, 0, 29, 27, 42, 180, 0, 60, 27, 46, 79, 132, 1, 1]
abbrev dktX8_back_2 : List UInt8 := dkwX8_back_2 ++ dktX8_back_3
def dkwX8_back_1 : List UInt8 := [42, 180, 0, 54, 27, 46, 79, 132, 1, 1, 167, 255, 235, 3, 60, 27, 7, 162, 0, 33, 42, 180, 0, 26]
abbrev dktX8_back_1 : List UInt8 := dkwX8_back_1 ++ dktX8_back_2
def dkwX8_back_0 : List UInt8 := [42, 180, 0, 63, 2, 160, 0, 6, 16, 253, 172, 3, 60, 27, 16, 18, 162, 0, 21, 42, 180, 0, 35, 27]
abbrev dktX8_back_0 : List UInt8 := dkwX8_back_0 ++ dktX8_back_1
theorem dksX8_back_0 : cX8_back.data.toList.drop 0 = dktX8_back_0 := by decide +kernel
theorem dksX8_back_1 : cX8_back.data.toList.drop 24 = dktX8_back_1 := dk_seg dksX8_back_0 24 rfl rfl
theorem dksX8_back_2 : cX8_back.data.toList.drop 48 = dktX8_back_2 := dk_seg dksX8_back_1 24 rfl rfl
theorem dksX8_back_3 : cX8_back.data.toList.drop 71 = dktX8_back_3 := dk_seg dksX8_back_2 23 rfl rfl
theorem dksX8_back_4 : cX8_back.data.toList.drop 95 = dktX8_back_4 := dk_seg dksX8_back_3 24 rfl rfl
theorem dX8_back_0 : decode cX8_back 0 = .ok (.aload_n 0, 1) := dk_42 (dk_at dksX8_back_0 0 rfl rfl)
theorem dX8_back_1 : decode cX8_back 1 = .ok (.getfield 63, 3) := dk_180 0 63 (dk_at dksX8_back_0 1 rfl rfl)
theorem dX8_back_4 : decode cX8_back 4 = .ok (.iconst (-1), 1) := dk_2 (dk_at dksX8_back_0 4 rfl rfl)
theorem dX8_back_5 : decode cX8_back 5 = .ok (.if_icmp .ne 6, 3) := dk_160 0 6 (dk_at dksX8_back_0 5 rfl rfl)
theorem dX8_back_8 : decode cX8_back 8 = .ok (.bipush (-3), 2) := dk_16 253 (dk_at dksX8_back_0 8 rfl rfl)
theorem dX8_back_10 : decode cX8_back 10 = .ok (.ireturn, 1) := dk_172 (dk_at dksX8_back_0 10 rfl rfl)
theorem dX8_back_11 : decode cX8_back 11 = .ok (.iconst 0, 1) := dk_3 (dk_at dksX8_back_0 11 rfl rfl)
theorem dX8_back_12 : decode cX8_back 12 = .ok (.istore_n 1, 1) := dk_60 (dk_at dksX8_back_0 12 rfl rfl)
theorem dX8_back_13 : decode cX8_back 13 = .ok (.iload_n 1, 1) := dk_27 (dk_at dksX8_back_0 13 rfl rfl)
theorem dX8_back_14 : decode cX8_back 14 = .ok (.bipush 18, 2) := dk_16 18 (dk_at dksX8_back_0 14 rfl rfl)
theorem dX8_back_16 : decode cX8_back 16 = .ok (.if_icmp .ge 21, 3) := dk_162 0 21 (dk_at dksX8_back_0 16 rfl rfl)
theorem dX8_back_19 : decode cX8_back 19 = .ok (.aload_n 0, 1) := dk_42 (dk_at dksX8_back_0 19 rfl rfl)
theorem dX8_back_20 : decode cX8_back 20 = .ok (.getfield 35, 3) := dk_180 0 35 (dk_at dksX8_back_0 20 rfl rfl)
theorem dX8_back_23 : decode cX8_back 23 = .ok (.iload_n 1, 1) := dk_27 (dk_at dksX8_back_0 23 rfl rfl)
theorem dX8_back_24 : decode cX8_back 24 = .ok (.aload_n 0, 1) := dk_42 (dk_at dksX8_back_1 0 rfl rfl)
theorem dX8_back_25 : decode cX8_back 25 = .ok (.getfield 54, 3) := dk_180 0 54 (dk_at dksX8_back_1 1 rfl rfl)
theorem dX8_back_28 : decode cX8_back 28 = .ok (.iload_n 1, 1) := dk_27 (dk_at dksX8_back_1 4 rfl rfl)
theorem dX8_back_29 : decode cX8_back 29 = .ok (.iaload, 1) := dk_46 (dk_at dksX8_back_1 5 rfl rfl)
theorem dX8_back_30 : decode cX8_back 30 = .ok (.iastore, 1) := dk_79 (dk_at dksX8_back_1 6 rfl rfl)
theorem dX8_back_31 : decode cX8_back 31 = .ok (.iinc 1 1, 3) := dk_132 1 1 (dk_at dksX8_back_1 7 rfl rfl)
theorem dX8_back_34 : decode cX8_back 34 = .ok (.goto (-21), 3) := dk_167 255 235 (dk_at dksX8_back_1 10 rfl rfl)
theorem dX8_back_37 : decode cX8_back 37 = .ok (.iconst 0, 1) := dk_3 (dk_at dksX8_back_1 13 rfl rfl)
theorem dX8_back_38 : decode cX8_back 38 = .ok (.istore_n 1, 1) := dk_60 (dk_at dksX8_back_1 14 rfl rfl)
theorem dX8_back_39 : decode cX8_back 39 = .ok (.iload_n 1, 1) := dk_27 (dk_at dksX8_back_1 15 rfl rfl)
theorem dX8_back_40 : decode cX8_back 40 = .ok (.iconst 4, 1) := dk_7 (dk_at dksX8_back_1 16 rfl rfl)
theorem dX8_back_41 : decode cX8_back 41 = .ok (.if_icmp .ge 33, 3) := dk_162 0 33 (dk_at dksX8_back_1 17 rfl rfl)
theorem dX8_back_44 : decode cX8_back 44 = .ok (.aload_n 0, 1) := dk_42 (dk_at dksX8_back_1 20 rfl rfl)
theorem dX8_back_45 : decode cX8_back 45 = .ok (.getfield 26, 3) := dk_180 0 26 (dk_at dksX8_back_1 21 rfl rfl)
theorem dX8_back_48 : decode cX8_back 48 = .ok (.iload_n 1, 1) := dk_27 (dk_at dksX8_back_2 0 rfl rfl)
theorem dX8_back_49 : decode cX8_back 49 = .ok (.aload_n 0, 1) := dk_42 (dk_at dksX8_back_2 1 rfl rfl)
theorem dX8_back_50 : decode cX8_back 50 = .ok (.getfield 57, 3) := dk_180 0 57 (dk_at dksX8_back_2 2 rfl rfl)
theorem dX8_back_53 : decode cX8_back 53 = .ok (.iload_n 1, 1) := dk_27 (dk_at dksX8_back_2 5 rfl rfl)
theorem dX8_back_54 : decode cX8_back 54 = .ok (.iaload, 1) := dk_46 (dk_at dksX8_back_2 6 rfl rfl)
theorem dX8_back_55 : decode cX8_back 55 = .ok (.iastore, 1) := dk_79 (dk_at dksX8_back_2 7 rfl rfl)
theorem dX8_back_56 : decode cX8_back 56 = .ok (.aload_n 0, 1) := dk_42 (dk_at dksX8_back_2 8 rfl rfl)
theorem dX8_back_57 : decode cX8_back 57 = .ok (.getfield 29, 3) := dk_180 0 29 (dk_at dksX8_back_2 9 rfl rfl)
theorem dX8_back_60 : decode cX8_back 60 = .ok (.iload_n 1, 1) := dk_27 (dk_at dksX8_back_2 12 rfl rfl)
theorem dX8_back_61 : decode cX8_back 61 = .ok (.aload_n 0, 1) := dk_42 (dk_at dksX8_back_2 13 rfl rfl)
theorem dX8_back_62 : decode cX8_back 62 = .ok (.getfield 60, 3) := dk_180 0 60 (dk_at dksX8_back_2 14 rfl rfl)
theorem dX8_back_65 : decode cX8_back 65 = .ok (.iload_n 1, 1) := dk_27 (dk_at dksX8_back_2 17 rfl rfl)
theorem dX8_back_66 : decode cX8_back 66 = .ok (.iaload, 1) := dk_46 (dk_at dksX8_back_2 18 rfl rfl)
theorem dX8_back_67 : decode cX8_back 67 = .ok (.iastore, 1) := dk_79 (dk_at dksX8_back_2 19 rfl rfl)
theorem dX8_back_68 : decode cX8_back 68 = .ok (.iinc 1 1, 3) := dk_132 1 1 (dk_at dksX8_back_2 20 rfl rfl)
theorem dX8_back_71 : decode cX8_back 71 = .ok (.goto (-32), 3) := dk_167 255 224 (dk_at dksX8_back_3 0 rfl rfl)
theorem dX8_back_74 : decode cX8_back 74 = .ok (.aload_n 0, 1) := dk_42 (dk_at dksX8_back_3 3 rfl rfl)
theorem dX8_back_75 : decode cX8_back 75 = .ok (.aload_n 0, 1) := dk_42 (dk_at dksX8_back_3 4 rfl rfl)
theorem dX8_back_76 : decode cX8_back 76 = .ok (.getfield 63, 3) := dk_180 0 63 (dk_at dksX8_back_3 5 rfl rfl)
theorem dX8_back_79 : decode cX8_back 79 = .ok (.putfield 85, 3) := dk_181 0 85 (dk_at dksX8_back_3 8 rfl rfl)
theorem dX8_back_82 : decode cX8_back 82 = .ok (.aload_n 0, 1) := dk_42 (dk_at dksX8_back_3 11 rfl rfl)
theorem dX8_back_83 : decode cX8_back 83 = .ok (.aload_n 0, 1) := dk_42 (dk_at dksX8_back_3 12 rfl rfl)
theorem dX8_back_84 : decode cX8_back 84 = .ok (.getfield 351, 3) := dk_180 1 95 (dk_at dksX8_back_3 13 rfl rfl)
theorem dX8_back_87 : decode cX8_back 87 = .ok (.putfield 23, 3) := dk_181 0 23 (dk_at dksX8_back_3 16 rfl rfl)
theorem dX8_back_90 : decode cX8_back 90 = .ok (.aload_n 0, 1) := dk_42 (dk_at dksX8_back_3 19 rfl rfl)
theorem dX8_back_91 : decode cX8_back 91 = .ok (.aload_n 0, 1) := dk_42 (dk_at dksX8_back_3 20 rfl rfl)
theorem dX8_back_92 : decode cX8_back 92 = .ok (.getfield 354, 3) := dk_180 1 98 (dk_at dksX8_back_3 21 rfl rfl)
theorem dX8_back_95 : decode cX8_back 95 = .ok (.putfield 128, 3) := dk_181 0 128 (dk_at dksX8_back_4 0 rfl rfl)
theorem dX8_back_98 : decode cX8_back 98 = .ok (.aload_n 0, 1) := dk_42 (dk_at dksX8_back_4 3 rfl rfl)
theorem dX8_back_99 : decode cX8_back 99 = .ok (.aload_n 0, 1) := dk_42 (dk_at dksX8_back_4 4 rfl rfl)
theorem dX8_back_100 : decode cX8_back 100 = .ok (.getfield 357, 3) := dk_180 1 101 (dk_at dksX8_back_4 5 rfl rfl)
theorem dX8_back_103 : decode cX8_back 103 = .ok (.putfield 119, 3) := dk_181 0 119 (dk_at dksX8_back_4 8 rfl rfl)
theorem dX8_back_106 : decode cX8_back 106 = .ok (.aload_n 0, 1) := dk_42 (dk_at dksX8_back_4 11 rfl rfl)
theorem dX8_back_107 : decode cX8_back 107 = .ok (.getfield 85, 3) := dk_180 0 85 (dk_at dksX8_back_4 12 rfl rfl)
theorem dX8_back_110 : decode cX8_back 110 = .ok (.ireturn, 1) := dk_172 (dk_at dksX8_back_4 15 rfl rfl)
abbrev cX8_count : ByteArray := prog_16_method_70_code
def yX8_count : MethodName := ⟨RX8, "count", "(I)I"⟩
def dkwX8_count_4 : List UInt8 := [27, 4, 160, 0, 7, 28, 167, 0, 10, 42, 180, 0, 128, 184, 1, 66, 172]
abbrev dktX8_count_4 : List UInt8 := dkwX8_count_4 ++ []
def dkwX8_count_3 : List UInt8 := [3, 167, 0, 4, 4, 96, 61, 132, 3, 1, 167, 255, 230, 27, 154, 0, 10, 42, 180, 0, 85, 167, 0, 19]
abbrev dktX8_count_3 : List UInt8 := dkwX8_count_3 ++ dktX8_count_4
def dkwX8_count_2 : List UInt8 := [180, 0, 119, 172, 3, 61, 3, 62, 29, 7, 162, 0, 27, 28, 42, 180, 0, 29, 29, 46, 2, 160, 0, 7]
abbrev dktX8_count_2 : List UInt8 := dkwX8_count_2 ++ dktX8_count_3
def dkwX8_count_1 : List UInt8 := [160, 0, 10, 42, 180, 0, 82, 167, 0, 19, 27, 7, 160, 0, 10, 42, 180, 0, 153, 167, 0, 7, 42]
abbrev dktX8_count_1 : List UInt8 := dkwX8_count_1 ++ dktX8_count_2
def dkwX8_count_0 : List UInt8 := [27, 133, 9, 20, 0, 122, 184, 0, 88, 154, 0, 6, 16, 254, 172, 27, 5, 164, 0, 32, 27, 6]
abbrev dktX8_count_0 : List UInt8 := dkwX8_count_0 ++ dktX8_count_1
theorem dksX8_count_0 : cX8_count.data.toList.drop 0 = dktX8_count_0 := by decide +kernel
theorem dksX8_count_1 : cX8_count.data.toList.drop 22 = dktX8_count_1 := dk_seg dksX8_count_0 22 rfl rfl
theorem dksX8_count_2 : cX8_count.data.toList.drop 45 = dktX8_count_2 := dk_seg dksX8_count_1 23 rfl rfl
theorem dksX8_count_3 : cX8_count.data.toList.drop 69 = dktX8_count_3 := dk_seg dksX8_count_2 24 rfl rfl
theorem dksX8_count_4 : cX8_count.data.toList.drop 93 = dktX8_count_4 := dk_seg dksX8_count_3 24 rfl rfl
theorem dX8_count_0 : decode cX8_count 0 = .ok (.iload_n 1, 1) := dk_27 (dk_at dksX8_count_0 0 rfl rfl)
theorem dX8_count_1 : decode cX8_count 1 = .ok (.i2l, 1) := dk_133 (dk_at dksX8_count_0 1 rfl rfl)
theorem dX8_count_2 : decode cX8_count 2 = .ok (.lconst 0, 1) := dk_9 (dk_at dksX8_count_0 2 rfl rfl)
theorem dX8_count_3 : decode cX8_count 3 = .ok (.ldc2_w 122, 3) := dk_20 0 122 (dk_at dksX8_count_0 3 rfl rfl)
theorem dX8_count_6 : decode cX8_count 6 = .ok (.invokestatic 88, 3) := dk_184 0 88 (dk_at dksX8_count_0 6 rfl rfl)
theorem dX8_count_9 : decode cX8_count 9 = .ok (.ifCond .ne 6, 3) := dk_154 0 6 (dk_at dksX8_count_0 9 rfl rfl)
theorem dX8_count_12 : decode cX8_count 12 = .ok (.bipush (-2), 2) := dk_16 254 (dk_at dksX8_count_0 12 rfl rfl)
theorem dX8_count_14 : decode cX8_count 14 = .ok (.ireturn, 1) := dk_172 (dk_at dksX8_count_0 14 rfl rfl)
theorem dX8_count_15 : decode cX8_count 15 = .ok (.iload_n 1, 1) := dk_27 (dk_at dksX8_count_0 15 rfl rfl)
theorem dX8_count_16 : decode cX8_count 16 = .ok (.iconst 2, 1) := dk_5 (dk_at dksX8_count_0 16 rfl rfl)
theorem dX8_count_17 : decode cX8_count 17 = .ok (.if_icmp .le 32, 3) := dk_164 0 32 (dk_at dksX8_count_0 17 rfl rfl)
theorem dX8_count_20 : decode cX8_count 20 = .ok (.iload_n 1, 1) := dk_27 (dk_at dksX8_count_0 20 rfl rfl)
theorem dX8_count_21 : decode cX8_count 21 = .ok (.iconst 3, 1) := dk_6 (dk_at dksX8_count_0 21 rfl rfl)
theorem dX8_count_22 : decode cX8_count 22 = .ok (.if_icmp .ne 10, 3) := dk_160 0 10 (dk_at dksX8_count_1 0 rfl rfl)
theorem dX8_count_25 : decode cX8_count 25 = .ok (.aload_n 0, 1) := dk_42 (dk_at dksX8_count_1 3 rfl rfl)
theorem dX8_count_26 : decode cX8_count 26 = .ok (.getfield 82, 3) := dk_180 0 82 (dk_at dksX8_count_1 4 rfl rfl)
theorem dX8_count_29 : decode cX8_count 29 = .ok (.goto 19, 3) := dk_167 0 19 (dk_at dksX8_count_1 7 rfl rfl)
theorem dX8_count_32 : decode cX8_count 32 = .ok (.iload_n 1, 1) := dk_27 (dk_at dksX8_count_1 10 rfl rfl)
theorem dX8_count_33 : decode cX8_count 33 = .ok (.iconst 4, 1) := dk_7 (dk_at dksX8_count_1 11 rfl rfl)
theorem dX8_count_34 : decode cX8_count 34 = .ok (.if_icmp .ne 10, 3) := dk_160 0 10 (dk_at dksX8_count_1 12 rfl rfl)
theorem dX8_count_37 : decode cX8_count 37 = .ok (.aload_n 0, 1) := dk_42 (dk_at dksX8_count_1 15 rfl rfl)
theorem dX8_count_38 : decode cX8_count 38 = .ok (.getfield 153, 3) := dk_180 0 153 (dk_at dksX8_count_1 16 rfl rfl)
theorem dX8_count_41 : decode cX8_count 41 = .ok (.goto 7, 3) := dk_167 0 7 (dk_at dksX8_count_1 19 rfl rfl)
theorem dX8_count_44 : decode cX8_count 44 = .ok (.aload_n 0, 1) := dk_42 (dk_at dksX8_count_1 22 rfl rfl)
theorem dX8_count_45 : decode cX8_count 45 = .ok (.getfield 119, 3) := dk_180 0 119 (dk_at dksX8_count_2 0 rfl rfl)
theorem dX8_count_48 : decode cX8_count 48 = .ok (.ireturn, 1) := dk_172 (dk_at dksX8_count_2 3 rfl rfl)
theorem dX8_count_49 : decode cX8_count 49 = .ok (.iconst 0, 1) := dk_3 (dk_at dksX8_count_2 4 rfl rfl)
theorem dX8_count_50 : decode cX8_count 50 = .ok (.istore_n 2, 1) := dk_61 (dk_at dksX8_count_2 5 rfl rfl)
theorem dX8_count_51 : decode cX8_count 51 = .ok (.iconst 0, 1) := dk_3 (dk_at dksX8_count_2 6 rfl rfl)
theorem dX8_count_52 : decode cX8_count 52 = .ok (.istore_n 3, 1) := dk_62 (dk_at dksX8_count_2 7 rfl rfl)
theorem dX8_count_53 : decode cX8_count 53 = .ok (.iload_n 3, 1) := dk_29 (dk_at dksX8_count_2 8 rfl rfl)
theorem dX8_count_54 : decode cX8_count 54 = .ok (.iconst 4, 1) := dk_7 (dk_at dksX8_count_2 9 rfl rfl)
theorem dX8_count_55 : decode cX8_count 55 = .ok (.if_icmp .ge 27, 3) := dk_162 0 27 (dk_at dksX8_count_2 10 rfl rfl)
theorem dX8_count_58 : decode cX8_count 58 = .ok (.iload_n 2, 1) := dk_28 (dk_at dksX8_count_2 13 rfl rfl)
theorem dX8_count_59 : decode cX8_count 59 = .ok (.aload_n 0, 1) := dk_42 (dk_at dksX8_count_2 14 rfl rfl)
theorem dX8_count_60 : decode cX8_count 60 = .ok (.getfield 29, 3) := dk_180 0 29 (dk_at dksX8_count_2 15 rfl rfl)
theorem dX8_count_63 : decode cX8_count 63 = .ok (.iload_n 3, 1) := dk_29 (dk_at dksX8_count_2 18 rfl rfl)
theorem dX8_count_64 : decode cX8_count 64 = .ok (.iaload, 1) := dk_46 (dk_at dksX8_count_2 19 rfl rfl)
theorem dX8_count_65 : decode cX8_count 65 = .ok (.iconst (-1), 1) := dk_2 (dk_at dksX8_count_2 20 rfl rfl)
theorem dX8_count_66 : decode cX8_count 66 = .ok (.if_icmp .ne 7, 3) := dk_160 0 7 (dk_at dksX8_count_2 21 rfl rfl)
theorem dX8_count_69 : decode cX8_count 69 = .ok (.iconst 0, 1) := dk_3 (dk_at dksX8_count_3 0 rfl rfl)
theorem dX8_count_70 : decode cX8_count 70 = .ok (.goto 4, 3) := dk_167 0 4 (dk_at dksX8_count_3 1 rfl rfl)
theorem dX8_count_73 : decode cX8_count 73 = .ok (.iconst 1, 1) := dk_4 (dk_at dksX8_count_3 4 rfl rfl)
theorem dX8_count_74 : decode cX8_count 74 = .ok (.iadd, 1) := dk_96 (dk_at dksX8_count_3 5 rfl rfl)
theorem dX8_count_75 : decode cX8_count 75 = .ok (.istore_n 2, 1) := dk_61 (dk_at dksX8_count_3 6 rfl rfl)
theorem dX8_count_76 : decode cX8_count 76 = .ok (.iinc 3 1, 3) := dk_132 3 1 (dk_at dksX8_count_3 7 rfl rfl)
theorem dX8_count_79 : decode cX8_count 79 = .ok (.goto (-26), 3) := dk_167 255 230 (dk_at dksX8_count_3 10 rfl rfl)
theorem dX8_count_82 : decode cX8_count 82 = .ok (.iload_n 1, 1) := dk_27 (dk_at dksX8_count_3 13 rfl rfl)
theorem dX8_count_83 : decode cX8_count 83 = .ok (.ifCond .ne 10, 3) := dk_154 0 10 (dk_at dksX8_count_3 14 rfl rfl)
theorem dX8_count_86 : decode cX8_count 86 = .ok (.aload_n 0, 1) := dk_42 (dk_at dksX8_count_3 17 rfl rfl)
theorem dX8_count_87 : decode cX8_count 87 = .ok (.getfield 85, 3) := dk_180 0 85 (dk_at dksX8_count_3 18 rfl rfl)
theorem dX8_count_90 : decode cX8_count 90 = .ok (.goto 19, 3) := dk_167 0 19 (dk_at dksX8_count_3 21 rfl rfl)
theorem dX8_count_93 : decode cX8_count 93 = .ok (.iload_n 1, 1) := dk_27 (dk_at dksX8_count_4 0 rfl rfl)
theorem dX8_count_94 : decode cX8_count 94 = .ok (.iconst 1, 1) := dk_4 (dk_at dksX8_count_4 1 rfl rfl)
theorem dX8_count_95 : decode cX8_count 95 = .ok (.if_icmp .ne 7, 3) := dk_160 0 7 (dk_at dksX8_count_4 2 rfl rfl)
theorem dX8_count_98 : decode cX8_count 98 = .ok (.iload_n 2, 1) := dk_28 (dk_at dksX8_count_4 5 rfl rfl)
theorem dX8_count_99 : decode cX8_count 99 = .ok (.goto 10, 3) := dk_167 0 10 (dk_at dksX8_count_4 6 rfl rfl)
theorem dX8_count_102 : decode cX8_count 102 = .ok (.aload_n 0, 1) := dk_42 (dk_at dksX8_count_4 9 rfl rfl)
theorem dX8_count_103 : decode cX8_count 103 = .ok (.getfield 128, 3) := dk_180 0 128 (dk_at dksX8_count_4 10 rfl rfl)
theorem dX8_count_106 : decode cX8_count 106 = .ok (.invokestatic 322, 3) := dk_184 1 66 (dk_at dksX8_count_4 13 rfl rfl)
theorem dX8_count_109 : decode cX8_count 109 = .ok (.ireturn, 1) := dk_172 (dk_at dksX8_count_4 16 rfl rfl)
abbrev cX8_cell : ByteArray := prog_16_method_73_code
def yX8_cell : MethodName := ⟨RX8, "cell", "(III)I"⟩
def dkwX8_cell_3 : List UInt8 := [27, 46, 4, 160, 0, 8, 29, 147, 167, 0, 4, 29, 79, 4, 172]
abbrev dktX8_cell_3 : List UInt8 := dkwX8_cell_3 ++ []
def dkwX8_cell_2 : List UInt8 := [16, 40, 27, 104, 28, 96, 42, 180, 0, 69, 27, 46, 154, 0, 8, 29, 145, 167, 0, 19, 42, 180, 0, 69]
abbrev dktX8_cell_2 : List UInt8 := dkwX8_cell_2 ++ dktX8_cell_3
def dkwX8_cell_1 : List UInt8 := [9, 42, 180, 0, 72, 27, 46, 4, 100, 133, 184, 0, 88, 154, 0, 6, 16, 244, 172, 42, 180, 0, 75]
abbrev dktX8_cell_1 : List UInt8 := dkwX8_cell_1 ++ dktX8_cell_2
def dkwX8_cell_0 : List UInt8 := [27, 184, 1, 75, 154, 0, 6, 16, 254, 172, 42, 180, 0, 66, 27, 51, 154, 0, 6, 16, 245, 172, 28, 133]
abbrev dktX8_cell_0 : List UInt8 := dkwX8_cell_0 ++ dktX8_cell_1
theorem dksX8_cell_0 : cX8_cell.data.toList.drop 0 = dktX8_cell_0 := by decide +kernel
theorem dksX8_cell_1 : cX8_cell.data.toList.drop 24 = dktX8_cell_1 := dk_seg dksX8_cell_0 24 rfl rfl
theorem dksX8_cell_2 : cX8_cell.data.toList.drop 47 = dktX8_cell_2 := dk_seg dksX8_cell_1 23 rfl rfl
theorem dksX8_cell_3 : cX8_cell.data.toList.drop 71 = dktX8_cell_3 := dk_seg dksX8_cell_2 24 rfl rfl
theorem dX8_cell_0 : decode cX8_cell 0 = .ok (.iload_n 1, 1) := dk_27 (dk_at dksX8_cell_0 0 rfl rfl)
theorem dX8_cell_1 : decode cX8_cell 1 = .ok (.invokestatic 331, 3) := dk_184 1 75 (dk_at dksX8_cell_0 1 rfl rfl)
theorem dX8_cell_4 : decode cX8_cell 4 = .ok (.ifCond .ne 6, 3) := dk_154 0 6 (dk_at dksX8_cell_0 4 rfl rfl)
theorem dX8_cell_7 : decode cX8_cell 7 = .ok (.bipush (-2), 2) := dk_16 254 (dk_at dksX8_cell_0 7 rfl rfl)
theorem dX8_cell_9 : decode cX8_cell 9 = .ok (.ireturn, 1) := dk_172 (dk_at dksX8_cell_0 9 rfl rfl)
theorem dX8_cell_10 : decode cX8_cell 10 = .ok (.aload_n 0, 1) := dk_42 (dk_at dksX8_cell_0 10 rfl rfl)
theorem dX8_cell_11 : decode cX8_cell 11 = .ok (.getfield 66, 3) := dk_180 0 66 (dk_at dksX8_cell_0 11 rfl rfl)
theorem dX8_cell_14 : decode cX8_cell 14 = .ok (.iload_n 1, 1) := dk_27 (dk_at dksX8_cell_0 14 rfl rfl)
theorem dX8_cell_15 : decode cX8_cell 15 = .ok (.baload, 1) := dk_51 (dk_at dksX8_cell_0 15 rfl rfl)
theorem dX8_cell_16 : decode cX8_cell 16 = .ok (.ifCond .ne 6, 3) := dk_154 0 6 (dk_at dksX8_cell_0 16 rfl rfl)
theorem dX8_cell_19 : decode cX8_cell 19 = .ok (.bipush (-11), 2) := dk_16 245 (dk_at dksX8_cell_0 19 rfl rfl)
theorem dX8_cell_21 : decode cX8_cell 21 = .ok (.ireturn, 1) := dk_172 (dk_at dksX8_cell_0 21 rfl rfl)
theorem dX8_cell_22 : decode cX8_cell 22 = .ok (.iload_n 2, 1) := dk_28 (dk_at dksX8_cell_0 22 rfl rfl)
theorem dX8_cell_23 : decode cX8_cell 23 = .ok (.i2l, 1) := dk_133 (dk_at dksX8_cell_0 23 rfl rfl)
theorem dX8_cell_24 : decode cX8_cell 24 = .ok (.lconst 0, 1) := dk_9 (dk_at dksX8_cell_1 0 rfl rfl)
theorem dX8_cell_25 : decode cX8_cell 25 = .ok (.aload_n 0, 1) := dk_42 (dk_at dksX8_cell_1 1 rfl rfl)
theorem dX8_cell_26 : decode cX8_cell 26 = .ok (.getfield 72, 3) := dk_180 0 72 (dk_at dksX8_cell_1 2 rfl rfl)
theorem dX8_cell_29 : decode cX8_cell 29 = .ok (.iload_n 1, 1) := dk_27 (dk_at dksX8_cell_1 5 rfl rfl)
theorem dX8_cell_30 : decode cX8_cell 30 = .ok (.iaload, 1) := dk_46 (dk_at dksX8_cell_1 6 rfl rfl)
theorem dX8_cell_31 : decode cX8_cell 31 = .ok (.iconst 1, 1) := dk_4 (dk_at dksX8_cell_1 7 rfl rfl)
theorem dX8_cell_32 : decode cX8_cell 32 = .ok (.isub, 1) := dk_100 (dk_at dksX8_cell_1 8 rfl rfl)
theorem dX8_cell_33 : decode cX8_cell 33 = .ok (.i2l, 1) := dk_133 (dk_at dksX8_cell_1 9 rfl rfl)
theorem dX8_cell_34 : decode cX8_cell 34 = .ok (.invokestatic 88, 3) := dk_184 0 88 (dk_at dksX8_cell_1 10 rfl rfl)
theorem dX8_cell_37 : decode cX8_cell 37 = .ok (.ifCond .ne 6, 3) := dk_154 0 6 (dk_at dksX8_cell_1 13 rfl rfl)
theorem dX8_cell_40 : decode cX8_cell 40 = .ok (.bipush (-12), 2) := dk_16 244 (dk_at dksX8_cell_1 16 rfl rfl)
theorem dX8_cell_42 : decode cX8_cell 42 = .ok (.ireturn, 1) := dk_172 (dk_at dksX8_cell_1 18 rfl rfl)
theorem dX8_cell_43 : decode cX8_cell 43 = .ok (.aload_n 0, 1) := dk_42 (dk_at dksX8_cell_1 19 rfl rfl)
theorem dX8_cell_44 : decode cX8_cell 44 = .ok (.getfield 75, 3) := dk_180 0 75 (dk_at dksX8_cell_1 20 rfl rfl)
theorem dX8_cell_47 : decode cX8_cell 47 = .ok (.bipush 40, 2) := dk_16 40 (dk_at dksX8_cell_2 0 rfl rfl)
theorem dX8_cell_49 : decode cX8_cell 49 = .ok (.iload_n 1, 1) := dk_27 (dk_at dksX8_cell_2 2 rfl rfl)
theorem dX8_cell_50 : decode cX8_cell 50 = .ok (.imul, 1) := dk_104 (dk_at dksX8_cell_2 3 rfl rfl)
theorem dX8_cell_51 : decode cX8_cell 51 = .ok (.iload_n 2, 1) := dk_28 (dk_at dksX8_cell_2 4 rfl rfl)
theorem dX8_cell_52 : decode cX8_cell 52 = .ok (.iadd, 1) := dk_96 (dk_at dksX8_cell_2 5 rfl rfl)
theorem dX8_cell_53 : decode cX8_cell 53 = .ok (.aload_n 0, 1) := dk_42 (dk_at dksX8_cell_2 6 rfl rfl)
theorem dX8_cell_54 : decode cX8_cell 54 = .ok (.getfield 69, 3) := dk_180 0 69 (dk_at dksX8_cell_2 7 rfl rfl)
theorem dX8_cell_57 : decode cX8_cell 57 = .ok (.iload_n 1, 1) := dk_27 (dk_at dksX8_cell_2 10 rfl rfl)
theorem dX8_cell_58 : decode cX8_cell 58 = .ok (.iaload, 1) := dk_46 (dk_at dksX8_cell_2 11 rfl rfl)
theorem dX8_cell_59 : decode cX8_cell 59 = .ok (.ifCond .ne 8, 3) := dk_154 0 8 (dk_at dksX8_cell_2 12 rfl rfl)
theorem dX8_cell_62 : decode cX8_cell 62 = .ok (.iload_n 3, 1) := dk_29 (dk_at dksX8_cell_2 15 rfl rfl)
theorem dX8_cell_63 : decode cX8_cell 63 = .ok (.i2b, 1) := dk_145 (dk_at dksX8_cell_2 16 rfl rfl)
theorem dX8_cell_64 : decode cX8_cell 64 = .ok (.goto 19, 3) := dk_167 0 19 (dk_at dksX8_cell_2 17 rfl rfl)
theorem dX8_cell_67 : decode cX8_cell 67 = .ok (.aload_n 0, 1) := dk_42 (dk_at dksX8_cell_2 20 rfl rfl)
theorem dX8_cell_68 : decode cX8_cell 68 = .ok (.getfield 69, 3) := dk_180 0 69 (dk_at dksX8_cell_2 21 rfl rfl)
theorem dX8_cell_71 : decode cX8_cell 71 = .ok (.iload_n 1, 1) := dk_27 (dk_at dksX8_cell_3 0 rfl rfl)
theorem dX8_cell_72 : decode cX8_cell 72 = .ok (.iaload, 1) := dk_46 (dk_at dksX8_cell_3 1 rfl rfl)
theorem dX8_cell_73 : decode cX8_cell 73 = .ok (.iconst 1, 1) := dk_4 (dk_at dksX8_cell_3 2 rfl rfl)
theorem dX8_cell_74 : decode cX8_cell 74 = .ok (.if_icmp .ne 8, 3) := dk_160 0 8 (dk_at dksX8_cell_3 3 rfl rfl)
theorem dX8_cell_77 : decode cX8_cell 77 = .ok (.iload_n 3, 1) := dk_29 (dk_at dksX8_cell_3 6 rfl rfl)
theorem dX8_cell_78 : decode cX8_cell 78 = .ok (.i2s, 1) := dk_147 (dk_at dksX8_cell_3 7 rfl rfl)
theorem dX8_cell_79 : decode cX8_cell 79 = .ok (.goto 4, 3) := dk_167 0 4 (dk_at dksX8_cell_3 8 rfl rfl)
theorem dX8_cell_82 : decode cX8_cell 82 = .ok (.iload_n 3, 1) := dk_29 (dk_at dksX8_cell_3 11 rfl rfl)
theorem dX8_cell_83 : decode cX8_cell 83 = .ok (.iastore, 1) := dk_79 (dk_at dksX8_cell_3 12 rfl rfl)
theorem dX8_cell_84 : decode cX8_cell 84 = .ok (.iconst 1, 1) := dk_4 (dk_at dksX8_cell_3 13 rfl rfl)
theorem dX8_cell_85 : decode cX8_cell 85 = .ok (.ireturn, 1) := dk_172 (dk_at dksX8_cell_3 14 rfl rfl)
abbrev cX8_copy : ByteArray := prog_16_method_74_code
def yX8_copy : MethodName := ⟨RX8, "copy", "(IIIII)I"⟩
def dkwX8_copy_7 : List UInt8 := [180, 0, 75, 16, 40, 27, 104, 28, 96, 21, 8, 96, 46, 79, 132, 7, 1, 167, 255, 198, 21, 5, 172]
abbrev dktX8_copy_7 : List UInt8 := dkwX8_copy_7 ++ []
def dkwX8_copy_6 : List UInt8 := [100, 167, 0, 5, 21, 7, 54, 8, 42, 180, 0, 75, 16, 40, 29, 104, 21, 4, 96, 21, 8, 96, 42]
abbrev dktX8_copy_6 : List UInt8 := dkwX8_copy_6 ++ dktX8_copy_7
def dkwX8_copy_5 : List UInt8 := [3, 54, 6, 3, 54, 7, 21, 7, 21, 5, 162, 0, 57, 21, 6, 153, 0, 13, 21, 5, 4, 100, 21, 7]
abbrev dktX8_copy_5 : List UInt8 := dkwX8_copy_5 ++ dktX8_copy_6
def dkwX8_copy_4 : List UInt8 := [21, 5, 100, 164, 0, 6, 16, 244, 172, 27, 29, 160, 0, 13, 28, 21, 4, 162, 0, 7, 4, 167, 0, 4]
abbrev dktX8_copy_4 : List UInt8 := dkwX8_copy_4 ++ dktX8_copy_5
def dkwX8_copy_3 : List UInt8 := [155, 0, 30, 28, 42, 180, 0, 72, 27, 46, 21, 5, 100, 163, 0, 17, 21, 4, 42, 180, 0, 72, 29, 46]
abbrev dktX8_copy_3 : List UInt8 := dkwX8_copy_3 ++ dktX8_copy_4
def dkwX8_copy_2 : List UInt8 := [180, 0, 69, 29, 46, 159, 0, 6, 16, 243, 172, 21, 5, 155, 0, 39, 28, 155, 0, 35, 21, 4]
abbrev dktX8_copy_2 : List UInt8 := dkwX8_copy_2 ++ dktX8_copy_3
def dkwX8_copy_1 : List UInt8 := [153, 0, 12, 42, 180, 0, 66, 29, 51, 154, 0, 6, 16, 245, 172, 42, 180, 0, 69, 27, 46, 42]
abbrev dktX8_copy_1 : List UInt8 := dkwX8_copy_1 ++ dktX8_copy_2
def dkwX8_copy_0 : List UInt8 := [27, 184, 1, 75, 153, 0, 10, 29, 184, 1, 75, 154, 0, 6, 16, 254, 172, 42, 180, 0, 66, 27, 51]
abbrev dktX8_copy_0 : List UInt8 := dkwX8_copy_0 ++ dktX8_copy_1
theorem dksX8_copy_0 : cX8_copy.data.toList.drop 0 = dktX8_copy_0 := by decide +kernel
theorem dksX8_copy_1 : cX8_copy.data.toList.drop 23 = dktX8_copy_1 := dk_seg dksX8_copy_0 23 rfl rfl
theorem dksX8_copy_2 : cX8_copy.data.toList.drop 45 = dktX8_copy_2 := dk_seg dksX8_copy_1 22 rfl rfl
theorem dksX8_copy_3 : cX8_copy.data.toList.drop 67 = dktX8_copy_3 := dk_seg dksX8_copy_2 22 rfl rfl
theorem dksX8_copy_4 : cX8_copy.data.toList.drop 91 = dktX8_copy_4 := dk_seg dksX8_copy_3 24 rfl rfl
theorem dksX8_copy_5 : cX8_copy.data.toList.drop 115 = dktX8_copy_5 := dk_seg dksX8_copy_4 24 rfl rfl
theorem dksX8_copy_6 : cX8_copy.data.toList.drop 139 = dktX8_copy_6 := dk_seg dksX8_copy_5 24 rfl rfl
theorem dksX8_copy_7 : cX8_copy.data.toList.drop 162 = dktX8_copy_7 := dk_seg dksX8_copy_6 23 rfl rfl
theorem dX8_copy_0 : decode cX8_copy 0 = .ok (.iload_n 1, 1) := dk_27 (dk_at dksX8_copy_0 0 rfl rfl)
theorem dX8_copy_1 : decode cX8_copy 1 = .ok (.invokestatic 331, 3) := dk_184 1 75 (dk_at dksX8_copy_0 1 rfl rfl)
theorem dX8_copy_4 : decode cX8_copy 4 = .ok (.ifCond .eq 10, 3) := dk_153 0 10 (dk_at dksX8_copy_0 4 rfl rfl)
theorem dX8_copy_7 : decode cX8_copy 7 = .ok (.iload_n 3, 1) := dk_29 (dk_at dksX8_copy_0 7 rfl rfl)
theorem dX8_copy_8 : decode cX8_copy 8 = .ok (.invokestatic 331, 3) := dk_184 1 75 (dk_at dksX8_copy_0 8 rfl rfl)
theorem dX8_copy_11 : decode cX8_copy 11 = .ok (.ifCond .ne 6, 3) := dk_154 0 6 (dk_at dksX8_copy_0 11 rfl rfl)
theorem dX8_copy_14 : decode cX8_copy 14 = .ok (.bipush (-2), 2) := dk_16 254 (dk_at dksX8_copy_0 14 rfl rfl)
theorem dX8_copy_16 : decode cX8_copy 16 = .ok (.ireturn, 1) := dk_172 (dk_at dksX8_copy_0 16 rfl rfl)
theorem dX8_copy_17 : decode cX8_copy 17 = .ok (.aload_n 0, 1) := dk_42 (dk_at dksX8_copy_0 17 rfl rfl)
theorem dX8_copy_18 : decode cX8_copy 18 = .ok (.getfield 66, 3) := dk_180 0 66 (dk_at dksX8_copy_0 18 rfl rfl)
theorem dX8_copy_21 : decode cX8_copy 21 = .ok (.iload_n 1, 1) := dk_27 (dk_at dksX8_copy_0 21 rfl rfl)
theorem dX8_copy_22 : decode cX8_copy 22 = .ok (.baload, 1) := dk_51 (dk_at dksX8_copy_0 22 rfl rfl)
theorem dX8_copy_23 : decode cX8_copy 23 = .ok (.ifCond .eq 12, 3) := dk_153 0 12 (dk_at dksX8_copy_1 0 rfl rfl)
theorem dX8_copy_26 : decode cX8_copy 26 = .ok (.aload_n 0, 1) := dk_42 (dk_at dksX8_copy_1 3 rfl rfl)
theorem dX8_copy_27 : decode cX8_copy 27 = .ok (.getfield 66, 3) := dk_180 0 66 (dk_at dksX8_copy_1 4 rfl rfl)
theorem dX8_copy_30 : decode cX8_copy 30 = .ok (.iload_n 3, 1) := dk_29 (dk_at dksX8_copy_1 7 rfl rfl)
theorem dX8_copy_31 : decode cX8_copy 31 = .ok (.baload, 1) := dk_51 (dk_at dksX8_copy_1 8 rfl rfl)
theorem dX8_copy_32 : decode cX8_copy 32 = .ok (.ifCond .ne 6, 3) := dk_154 0 6 (dk_at dksX8_copy_1 9 rfl rfl)
theorem dX8_copy_35 : decode cX8_copy 35 = .ok (.bipush (-11), 2) := dk_16 245 (dk_at dksX8_copy_1 12 rfl rfl)
theorem dX8_copy_37 : decode cX8_copy 37 = .ok (.ireturn, 1) := dk_172 (dk_at dksX8_copy_1 14 rfl rfl)
theorem dX8_copy_38 : decode cX8_copy 38 = .ok (.aload_n 0, 1) := dk_42 (dk_at dksX8_copy_1 15 rfl rfl)
theorem dX8_copy_39 : decode cX8_copy 39 = .ok (.getfield 69, 3) := dk_180 0 69 (dk_at dksX8_copy_1 16 rfl rfl)
theorem dX8_copy_42 : decode cX8_copy 42 = .ok (.iload_n 1, 1) := dk_27 (dk_at dksX8_copy_1 19 rfl rfl)
theorem dX8_copy_43 : decode cX8_copy 43 = .ok (.iaload, 1) := dk_46 (dk_at dksX8_copy_1 20 rfl rfl)
theorem dX8_copy_44 : decode cX8_copy 44 = .ok (.aload_n 0, 1) := dk_42 (dk_at dksX8_copy_1 21 rfl rfl)
theorem dX8_copy_45 : decode cX8_copy 45 = .ok (.getfield 69, 3) := dk_180 0 69 (dk_at dksX8_copy_2 0 rfl rfl)
theorem dX8_copy_48 : decode cX8_copy 48 = .ok (.iload_n 3, 1) := dk_29 (dk_at dksX8_copy_2 3 rfl rfl)
theorem dX8_copy_49 : decode cX8_copy 49 = .ok (.iaload, 1) := dk_46 (dk_at dksX8_copy_2 4 rfl rfl)
theorem dX8_copy_50 : decode cX8_copy 50 = .ok (.if_icmp .eq 6, 3) := dk_159 0 6 (dk_at dksX8_copy_2 5 rfl rfl)
theorem dX8_copy_53 : decode cX8_copy 53 = .ok (.bipush (-13), 2) := dk_16 243 (dk_at dksX8_copy_2 8 rfl rfl)
theorem dX8_copy_55 : decode cX8_copy 55 = .ok (.ireturn, 1) := dk_172 (dk_at dksX8_copy_2 10 rfl rfl)
theorem dX8_copy_56 : decode cX8_copy 56 = .ok (.iload 5, 2) := dk_21 5 (dk_at dksX8_copy_2 11 rfl rfl)
theorem dX8_copy_58 : decode cX8_copy 58 = .ok (.ifCond .lt 39, 3) := dk_155 0 39 (dk_at dksX8_copy_2 13 rfl rfl)
theorem dX8_copy_61 : decode cX8_copy 61 = .ok (.iload_n 2, 1) := dk_28 (dk_at dksX8_copy_2 16 rfl rfl)
theorem dX8_copy_62 : decode cX8_copy 62 = .ok (.ifCond .lt 35, 3) := dk_155 0 35 (dk_at dksX8_copy_2 17 rfl rfl)
theorem dX8_copy_65 : decode cX8_copy 65 = .ok (.iload 4, 2) := dk_21 4 (dk_at dksX8_copy_2 20 rfl rfl)
theorem dX8_copy_67 : decode cX8_copy 67 = .ok (.ifCond .lt 30, 3) := dk_155 0 30 (dk_at dksX8_copy_3 0 rfl rfl)
theorem dX8_copy_70 : decode cX8_copy 70 = .ok (.iload_n 2, 1) := dk_28 (dk_at dksX8_copy_3 3 rfl rfl)
theorem dX8_copy_71 : decode cX8_copy 71 = .ok (.aload_n 0, 1) := dk_42 (dk_at dksX8_copy_3 4 rfl rfl)
theorem dX8_copy_72 : decode cX8_copy 72 = .ok (.getfield 72, 3) := dk_180 0 72 (dk_at dksX8_copy_3 5 rfl rfl)
theorem dX8_copy_75 : decode cX8_copy 75 = .ok (.iload_n 1, 1) := dk_27 (dk_at dksX8_copy_3 8 rfl rfl)
theorem dX8_copy_76 : decode cX8_copy 76 = .ok (.iaload, 1) := dk_46 (dk_at dksX8_copy_3 9 rfl rfl)
theorem dX8_copy_77 : decode cX8_copy 77 = .ok (.iload 5, 2) := dk_21 5 (dk_at dksX8_copy_3 10 rfl rfl)
theorem dX8_copy_79 : decode cX8_copy 79 = .ok (.isub, 1) := dk_100 (dk_at dksX8_copy_3 12 rfl rfl)
theorem dX8_copy_80 : decode cX8_copy 80 = .ok (.if_icmp .gt 17, 3) := dk_163 0 17 (dk_at dksX8_copy_3 13 rfl rfl)
theorem dX8_copy_83 : decode cX8_copy 83 = .ok (.iload 4, 2) := dk_21 4 (dk_at dksX8_copy_3 16 rfl rfl)
theorem dX8_copy_85 : decode cX8_copy 85 = .ok (.aload_n 0, 1) := dk_42 (dk_at dksX8_copy_3 18 rfl rfl)
theorem dX8_copy_86 : decode cX8_copy 86 = .ok (.getfield 72, 3) := dk_180 0 72 (dk_at dksX8_copy_3 19 rfl rfl)
theorem dX8_copy_89 : decode cX8_copy 89 = .ok (.iload_n 3, 1) := dk_29 (dk_at dksX8_copy_3 22 rfl rfl)
theorem dX8_copy_90 : decode cX8_copy 90 = .ok (.iaload, 1) := dk_46 (dk_at dksX8_copy_3 23 rfl rfl)
theorem dX8_copy_91 : decode cX8_copy 91 = .ok (.iload 5, 2) := dk_21 5 (dk_at dksX8_copy_4 0 rfl rfl)
theorem dX8_copy_93 : decode cX8_copy 93 = .ok (.isub, 1) := dk_100 (dk_at dksX8_copy_4 2 rfl rfl)
theorem dX8_copy_94 : decode cX8_copy 94 = .ok (.if_icmp .le 6, 3) := dk_164 0 6 (dk_at dksX8_copy_4 3 rfl rfl)
theorem dX8_copy_97 : decode cX8_copy 97 = .ok (.bipush (-12), 2) := dk_16 244 (dk_at dksX8_copy_4 6 rfl rfl)
theorem dX8_copy_99 : decode cX8_copy 99 = .ok (.ireturn, 1) := dk_172 (dk_at dksX8_copy_4 8 rfl rfl)
theorem dX8_copy_100 : decode cX8_copy 100 = .ok (.iload_n 1, 1) := dk_27 (dk_at dksX8_copy_4 9 rfl rfl)
theorem dX8_copy_101 : decode cX8_copy 101 = .ok (.iload_n 3, 1) := dk_29 (dk_at dksX8_copy_4 10 rfl rfl)
theorem dX8_copy_102 : decode cX8_copy 102 = .ok (.if_icmp .ne 13, 3) := dk_160 0 13 (dk_at dksX8_copy_4 11 rfl rfl)
theorem dX8_copy_105 : decode cX8_copy 105 = .ok (.iload_n 2, 1) := dk_28 (dk_at dksX8_copy_4 14 rfl rfl)
theorem dX8_copy_106 : decode cX8_copy 106 = .ok (.iload 4, 2) := dk_21 4 (dk_at dksX8_copy_4 15 rfl rfl)
theorem dX8_copy_108 : decode cX8_copy 108 = .ok (.if_icmp .ge 7, 3) := dk_162 0 7 (dk_at dksX8_copy_4 17 rfl rfl)
theorem dX8_copy_111 : decode cX8_copy 111 = .ok (.iconst 1, 1) := dk_4 (dk_at dksX8_copy_4 20 rfl rfl)
theorem dX8_copy_112 : decode cX8_copy 112 = .ok (.goto 4, 3) := dk_167 0 4 (dk_at dksX8_copy_4 21 rfl rfl)
theorem dX8_copy_115 : decode cX8_copy 115 = .ok (.iconst 0, 1) := dk_3 (dk_at dksX8_copy_5 0 rfl rfl)
theorem dX8_copy_116 : decode cX8_copy 116 = .ok (.istore 6, 2) := dk_54 6 (dk_at dksX8_copy_5 1 rfl rfl)
theorem dX8_copy_118 : decode cX8_copy 118 = .ok (.iconst 0, 1) := dk_3 (dk_at dksX8_copy_5 3 rfl rfl)
theorem dX8_copy_119 : decode cX8_copy 119 = .ok (.istore 7, 2) := dk_54 7 (dk_at dksX8_copy_5 4 rfl rfl)
theorem dX8_copy_121 : decode cX8_copy 121 = .ok (.iload 7, 2) := dk_21 7 (dk_at dksX8_copy_5 6 rfl rfl)
theorem dX8_copy_123 : decode cX8_copy 123 = .ok (.iload 5, 2) := dk_21 5 (dk_at dksX8_copy_5 8 rfl rfl)
theorem dX8_copy_125 : decode cX8_copy 125 = .ok (.if_icmp .ge 57, 3) := dk_162 0 57 (dk_at dksX8_copy_5 10 rfl rfl)
theorem dX8_copy_128 : decode cX8_copy 128 = .ok (.iload 6, 2) := dk_21 6 (dk_at dksX8_copy_5 13 rfl rfl)
theorem dX8_copy_130 : decode cX8_copy 130 = .ok (.ifCond .eq 13, 3) := dk_153 0 13 (dk_at dksX8_copy_5 15 rfl rfl)
theorem dX8_copy_133 : decode cX8_copy 133 = .ok (.iload 5, 2) := dk_21 5 (dk_at dksX8_copy_5 18 rfl rfl)
theorem dX8_copy_135 : decode cX8_copy 135 = .ok (.iconst 1, 1) := dk_4 (dk_at dksX8_copy_5 20 rfl rfl)
theorem dX8_copy_136 : decode cX8_copy 136 = .ok (.isub, 1) := dk_100 (dk_at dksX8_copy_5 21 rfl rfl)
theorem dX8_copy_137 : decode cX8_copy 137 = .ok (.iload 7, 2) := dk_21 7 (dk_at dksX8_copy_5 22 rfl rfl)
theorem dX8_copy_139 : decode cX8_copy 139 = .ok (.isub, 1) := dk_100 (dk_at dksX8_copy_6 0 rfl rfl)
theorem dX8_copy_140 : decode cX8_copy 140 = .ok (.goto 5, 3) := dk_167 0 5 (dk_at dksX8_copy_6 1 rfl rfl)
theorem dX8_copy_143 : decode cX8_copy 143 = .ok (.iload 7, 2) := dk_21 7 (dk_at dksX8_copy_6 4 rfl rfl)
theorem dX8_copy_145 : decode cX8_copy 145 = .ok (.istore 8, 2) := dk_54 8 (dk_at dksX8_copy_6 6 rfl rfl)
theorem dX8_copy_147 : decode cX8_copy 147 = .ok (.aload_n 0, 1) := dk_42 (dk_at dksX8_copy_6 8 rfl rfl)
theorem dX8_copy_148 : decode cX8_copy 148 = .ok (.getfield 75, 3) := dk_180 0 75 (dk_at dksX8_copy_6 9 rfl rfl)
theorem dX8_copy_151 : decode cX8_copy 151 = .ok (.bipush 40, 2) := dk_16 40 (dk_at dksX8_copy_6 12 rfl rfl)
theorem dX8_copy_153 : decode cX8_copy 153 = .ok (.iload_n 3, 1) := dk_29 (dk_at dksX8_copy_6 14 rfl rfl)
theorem dX8_copy_154 : decode cX8_copy 154 = .ok (.imul, 1) := dk_104 (dk_at dksX8_copy_6 15 rfl rfl)
theorem dX8_copy_155 : decode cX8_copy 155 = .ok (.iload 4, 2) := dk_21 4 (dk_at dksX8_copy_6 16 rfl rfl)
theorem dX8_copy_157 : decode cX8_copy 157 = .ok (.iadd, 1) := dk_96 (dk_at dksX8_copy_6 18 rfl rfl)
theorem dX8_copy_158 : decode cX8_copy 158 = .ok (.iload 8, 2) := dk_21 8 (dk_at dksX8_copy_6 19 rfl rfl)
theorem dX8_copy_160 : decode cX8_copy 160 = .ok (.iadd, 1) := dk_96 (dk_at dksX8_copy_6 21 rfl rfl)
theorem dX8_copy_161 : decode cX8_copy 161 = .ok (.aload_n 0, 1) := dk_42 (dk_at dksX8_copy_6 22 rfl rfl)
theorem dX8_copy_162 : decode cX8_copy 162 = .ok (.getfield 75, 3) := dk_180 0 75 (dk_at dksX8_copy_7 0 rfl rfl)
theorem dX8_copy_165 : decode cX8_copy 165 = .ok (.bipush 40, 2) := dk_16 40 (dk_at dksX8_copy_7 3 rfl rfl)
theorem dX8_copy_167 : decode cX8_copy 167 = .ok (.iload_n 1, 1) := dk_27 (dk_at dksX8_copy_7 5 rfl rfl)
theorem dX8_copy_168 : decode cX8_copy 168 = .ok (.imul, 1) := dk_104 (dk_at dksX8_copy_7 6 rfl rfl)
theorem dX8_copy_169 : decode cX8_copy 169 = .ok (.iload_n 2, 1) := dk_28 (dk_at dksX8_copy_7 7 rfl rfl)
theorem dX8_copy_170 : decode cX8_copy 170 = .ok (.iadd, 1) := dk_96 (dk_at dksX8_copy_7 8 rfl rfl)
theorem dX8_copy_171 : decode cX8_copy 171 = .ok (.iload 8, 2) := dk_21 8 (dk_at dksX8_copy_7 9 rfl rfl)
theorem dX8_copy_173 : decode cX8_copy 173 = .ok (.iadd, 1) := dk_96 (dk_at dksX8_copy_7 11 rfl rfl)
theorem dX8_copy_174 : decode cX8_copy 174 = .ok (.iaload, 1) := dk_46 (dk_at dksX8_copy_7 12 rfl rfl)
theorem dX8_copy_175 : decode cX8_copy 175 = .ok (.iastore, 1) := dk_79 (dk_at dksX8_copy_7 13 rfl rfl)
theorem dX8_copy_176 : decode cX8_copy 176 = .ok (.iinc 7 1, 3) := dk_132 7 1 (dk_at dksX8_copy_7 14 rfl rfl)
theorem dX8_copy_179 : decode cX8_copy 179 = .ok (.goto (-58), 3) := dk_167 255 198 (dk_at dksX8_copy_7 17 rfl rfl)
theorem dX8_copy_182 : decode cX8_copy 182 = .ok (.iload 5, 2) := dk_21 5 (dk_at dksX8_copy_7 20 rfl rfl)
theorem dX8_copy_184 : decode cX8_copy 184 = .ok (.ireturn, 1) := dk_172 (dk_at dksX8_copy_7 22 rfl rfl)
abbrev cX8_panes : ByteArray := prog_16_method_75_code
def yX8_panes : MethodName := ⟨RX8, "panes", "(IIII)I"⟩
def dkwX8_panes_7 : List UInt8 := [132, 6, 1, 167, 255, 167, 21, 5, 172]
abbrev dktX8_panes_7 : List UInt8 := dkwX8_panes_7 ++ []
def dkwX8_panes_6 : List UInt8 := [180, 0, 75, 21, 7, 5, 96, 46, 182, 1, 110, 155, 0, 7, 4, 167, 0, 4, 3, 96, 54, 5]
abbrev dktX8_panes_6 : List UInt8 := dkwX8_panes_6 ++ dktX8_panes_7
def dkwX8_panes_5 : List UInt8 := [54, 7, 21, 5, 42, 42, 180, 0, 75, 21, 7, 46, 42, 180, 0, 75, 21, 7, 4, 96, 46, 42]
abbrev dktX8_panes_5 : List UInt8 := dkwX8_panes_5 ++ dktX8_panes_6
def dkwX8_panes_4 : List UInt8 := [6, 21, 6, 104, 100, 6, 100, 164, 0, 6, 16, 244, 172, 16, 40, 27, 104, 29, 96, 6, 21, 6, 104, 96]
abbrev dktX8_panes_4 : List UInt8 := dkwX8_panes_4 ++ dktX8_panes_5
def dkwX8_panes_3 : List UInt8 := [3, 54, 5, 3, 54, 6, 21, 6, 21, 4, 162, 0, 88, 29, 155, 0, 20, 29, 42, 180, 0, 72, 27, 46]
abbrev dktX8_panes_3 : List UInt8 := dkwX8_panes_3 ++ dktX8_panes_4
def dkwX8_panes_2 : List UInt8 := [180, 0, 69, 27, 46, 28, 159, 0, 6, 16, 243, 172, 42, 180, 0, 66, 27, 51, 154, 0, 6, 16, 245, 172]
abbrev dktX8_panes_2 : List UInt8 := dkwX8_panes_2 ++ dktX8_panes_3
def dkwX8_panes_1 : List UInt8 := [20, 1, 108, 184, 0, 88, 154, 0, 6, 16, 254, 172, 42, 180, 0, 66, 27, 51, 153, 0, 16, 42]
abbrev dktX8_panes_1 : List UInt8 := dkwX8_panes_1 ++ dktX8_panes_2
def dkwX8_panes_0 : List UInt8 := [27, 184, 1, 75, 153, 0, 28, 28, 133, 9, 20, 1, 106, 184, 0, 88, 153, 0, 16, 21, 4, 133, 9]
abbrev dktX8_panes_0 : List UInt8 := dkwX8_panes_0 ++ dktX8_panes_1
theorem dksX8_panes_0 : cX8_panes.data.toList.drop 0 = dktX8_panes_0 := by decide +kernel
theorem dksX8_panes_1 : cX8_panes.data.toList.drop 23 = dktX8_panes_1 := dk_seg dksX8_panes_0 23 rfl rfl
theorem dksX8_panes_2 : cX8_panes.data.toList.drop 45 = dktX8_panes_2 := dk_seg dksX8_panes_1 22 rfl rfl
theorem dksX8_panes_3 : cX8_panes.data.toList.drop 69 = dktX8_panes_3 := dk_seg dksX8_panes_2 24 rfl rfl
theorem dksX8_panes_4 : cX8_panes.data.toList.drop 93 = dktX8_panes_4 := dk_seg dksX8_panes_3 24 rfl rfl
theorem dksX8_panes_5 : cX8_panes.data.toList.drop 117 = dktX8_panes_5 := dk_seg dksX8_panes_4 24 rfl rfl
theorem dksX8_panes_6 : cX8_panes.data.toList.drop 139 = dktX8_panes_6 := dk_seg dksX8_panes_5 22 rfl rfl
theorem dksX8_panes_7 : cX8_panes.data.toList.drop 161 = dktX8_panes_7 := dk_seg dksX8_panes_6 22 rfl rfl
theorem dX8_panes_0 : decode cX8_panes 0 = .ok (.iload_n 1, 1) := dk_27 (dk_at dksX8_panes_0 0 rfl rfl)
theorem dX8_panes_1 : decode cX8_panes 1 = .ok (.invokestatic 331, 3) := dk_184 1 75 (dk_at dksX8_panes_0 1 rfl rfl)
theorem dX8_panes_4 : decode cX8_panes 4 = .ok (.ifCond .eq 28, 3) := dk_153 0 28 (dk_at dksX8_panes_0 4 rfl rfl)
theorem dX8_panes_7 : decode cX8_panes 7 = .ok (.iload_n 2, 1) := dk_28 (dk_at dksX8_panes_0 7 rfl rfl)
theorem dX8_panes_8 : decode cX8_panes 8 = .ok (.i2l, 1) := dk_133 (dk_at dksX8_panes_0 8 rfl rfl)
theorem dX8_panes_9 : decode cX8_panes 9 = .ok (.lconst 0, 1) := dk_9 (dk_at dksX8_panes_0 9 rfl rfl)
theorem dX8_panes_10 : decode cX8_panes 10 = .ok (.ldc2_w 362, 3) := dk_20 1 106 (dk_at dksX8_panes_0 10 rfl rfl)
theorem dX8_panes_13 : decode cX8_panes 13 = .ok (.invokestatic 88, 3) := dk_184 0 88 (dk_at dksX8_panes_0 13 rfl rfl)
theorem dX8_panes_16 : decode cX8_panes 16 = .ok (.ifCond .eq 16, 3) := dk_153 0 16 (dk_at dksX8_panes_0 16 rfl rfl)
theorem dX8_panes_19 : decode cX8_panes 19 = .ok (.iload 4, 2) := dk_21 4 (dk_at dksX8_panes_0 19 rfl rfl)
theorem dX8_panes_21 : decode cX8_panes 21 = .ok (.i2l, 1) := dk_133 (dk_at dksX8_panes_0 21 rfl rfl)
theorem dX8_panes_22 : decode cX8_panes 22 = .ok (.lconst 0, 1) := dk_9 (dk_at dksX8_panes_0 22 rfl rfl)
theorem dX8_panes_23 : decode cX8_panes 23 = .ok (.ldc2_w 364, 3) := dk_20 1 108 (dk_at dksX8_panes_1 0 rfl rfl)
theorem dX8_panes_26 : decode cX8_panes 26 = .ok (.invokestatic 88, 3) := dk_184 0 88 (dk_at dksX8_panes_1 3 rfl rfl)
theorem dX8_panes_29 : decode cX8_panes 29 = .ok (.ifCond .ne 6, 3) := dk_154 0 6 (dk_at dksX8_panes_1 6 rfl rfl)
theorem dX8_panes_32 : decode cX8_panes 32 = .ok (.bipush (-2), 2) := dk_16 254 (dk_at dksX8_panes_1 9 rfl rfl)
theorem dX8_panes_34 : decode cX8_panes 34 = .ok (.ireturn, 1) := dk_172 (dk_at dksX8_panes_1 11 rfl rfl)
theorem dX8_panes_35 : decode cX8_panes 35 = .ok (.aload_n 0, 1) := dk_42 (dk_at dksX8_panes_1 12 rfl rfl)
theorem dX8_panes_36 : decode cX8_panes 36 = .ok (.getfield 66, 3) := dk_180 0 66 (dk_at dksX8_panes_1 13 rfl rfl)
theorem dX8_panes_39 : decode cX8_panes 39 = .ok (.iload_n 1, 1) := dk_27 (dk_at dksX8_panes_1 16 rfl rfl)
theorem dX8_panes_40 : decode cX8_panes 40 = .ok (.baload, 1) := dk_51 (dk_at dksX8_panes_1 17 rfl rfl)
theorem dX8_panes_41 : decode cX8_panes 41 = .ok (.ifCond .eq 16, 3) := dk_153 0 16 (dk_at dksX8_panes_1 18 rfl rfl)
theorem dX8_panes_44 : decode cX8_panes 44 = .ok (.aload_n 0, 1) := dk_42 (dk_at dksX8_panes_1 21 rfl rfl)
theorem dX8_panes_45 : decode cX8_panes 45 = .ok (.getfield 69, 3) := dk_180 0 69 (dk_at dksX8_panes_2 0 rfl rfl)
theorem dX8_panes_48 : decode cX8_panes 48 = .ok (.iload_n 1, 1) := dk_27 (dk_at dksX8_panes_2 3 rfl rfl)
theorem dX8_panes_49 : decode cX8_panes 49 = .ok (.iaload, 1) := dk_46 (dk_at dksX8_panes_2 4 rfl rfl)
theorem dX8_panes_50 : decode cX8_panes 50 = .ok (.iload_n 2, 1) := dk_28 (dk_at dksX8_panes_2 5 rfl rfl)
theorem dX8_panes_51 : decode cX8_panes 51 = .ok (.if_icmp .eq 6, 3) := dk_159 0 6 (dk_at dksX8_panes_2 6 rfl rfl)
theorem dX8_panes_54 : decode cX8_panes 54 = .ok (.bipush (-13), 2) := dk_16 243 (dk_at dksX8_panes_2 9 rfl rfl)
theorem dX8_panes_56 : decode cX8_panes 56 = .ok (.ireturn, 1) := dk_172 (dk_at dksX8_panes_2 11 rfl rfl)
theorem dX8_panes_57 : decode cX8_panes 57 = .ok (.aload_n 0, 1) := dk_42 (dk_at dksX8_panes_2 12 rfl rfl)
theorem dX8_panes_58 : decode cX8_panes 58 = .ok (.getfield 66, 3) := dk_180 0 66 (dk_at dksX8_panes_2 13 rfl rfl)
theorem dX8_panes_61 : decode cX8_panes 61 = .ok (.iload_n 1, 1) := dk_27 (dk_at dksX8_panes_2 16 rfl rfl)
theorem dX8_panes_62 : decode cX8_panes 62 = .ok (.baload, 1) := dk_51 (dk_at dksX8_panes_2 17 rfl rfl)
theorem dX8_panes_63 : decode cX8_panes 63 = .ok (.ifCond .ne 6, 3) := dk_154 0 6 (dk_at dksX8_panes_2 18 rfl rfl)
theorem dX8_panes_66 : decode cX8_panes 66 = .ok (.bipush (-11), 2) := dk_16 245 (dk_at dksX8_panes_2 21 rfl rfl)
theorem dX8_panes_68 : decode cX8_panes 68 = .ok (.ireturn, 1) := dk_172 (dk_at dksX8_panes_2 23 rfl rfl)
theorem dX8_panes_69 : decode cX8_panes 69 = .ok (.iconst 0, 1) := dk_3 (dk_at dksX8_panes_3 0 rfl rfl)
theorem dX8_panes_70 : decode cX8_panes 70 = .ok (.istore 5, 2) := dk_54 5 (dk_at dksX8_panes_3 1 rfl rfl)
theorem dX8_panes_72 : decode cX8_panes 72 = .ok (.iconst 0, 1) := dk_3 (dk_at dksX8_panes_3 3 rfl rfl)
theorem dX8_panes_73 : decode cX8_panes 73 = .ok (.istore 6, 2) := dk_54 6 (dk_at dksX8_panes_3 4 rfl rfl)
theorem dX8_panes_75 : decode cX8_panes 75 = .ok (.iload 6, 2) := dk_21 6 (dk_at dksX8_panes_3 6 rfl rfl)
theorem dX8_panes_77 : decode cX8_panes 77 = .ok (.iload 4, 2) := dk_21 4 (dk_at dksX8_panes_3 8 rfl rfl)
theorem dX8_panes_79 : decode cX8_panes 79 = .ok (.if_icmp .ge 88, 3) := dk_162 0 88 (dk_at dksX8_panes_3 10 rfl rfl)
theorem dX8_panes_82 : decode cX8_panes 82 = .ok (.iload_n 3, 1) := dk_29 (dk_at dksX8_panes_3 13 rfl rfl)
theorem dX8_panes_83 : decode cX8_panes 83 = .ok (.ifCond .lt 20, 3) := dk_155 0 20 (dk_at dksX8_panes_3 14 rfl rfl)
theorem dX8_panes_86 : decode cX8_panes 86 = .ok (.iload_n 3, 1) := dk_29 (dk_at dksX8_panes_3 17 rfl rfl)
theorem dX8_panes_87 : decode cX8_panes 87 = .ok (.aload_n 0, 1) := dk_42 (dk_at dksX8_panes_3 18 rfl rfl)
theorem dX8_panes_88 : decode cX8_panes 88 = .ok (.getfield 72, 3) := dk_180 0 72 (dk_at dksX8_panes_3 19 rfl rfl)
theorem dX8_panes_91 : decode cX8_panes 91 = .ok (.iload_n 1, 1) := dk_27 (dk_at dksX8_panes_3 22 rfl rfl)
theorem dX8_panes_92 : decode cX8_panes 92 = .ok (.iaload, 1) := dk_46 (dk_at dksX8_panes_3 23 rfl rfl)
theorem dX8_panes_93 : decode cX8_panes 93 = .ok (.iconst 3, 1) := dk_6 (dk_at dksX8_panes_4 0 rfl rfl)
theorem dX8_panes_94 : decode cX8_panes 94 = .ok (.iload 6, 2) := dk_21 6 (dk_at dksX8_panes_4 1 rfl rfl)
theorem dX8_panes_96 : decode cX8_panes 96 = .ok (.imul, 1) := dk_104 (dk_at dksX8_panes_4 3 rfl rfl)
theorem dX8_panes_97 : decode cX8_panes 97 = .ok (.isub, 1) := dk_100 (dk_at dksX8_panes_4 4 rfl rfl)
theorem dX8_panes_98 : decode cX8_panes 98 = .ok (.iconst 3, 1) := dk_6 (dk_at dksX8_panes_4 5 rfl rfl)
theorem dX8_panes_99 : decode cX8_panes 99 = .ok (.isub, 1) := dk_100 (dk_at dksX8_panes_4 6 rfl rfl)
theorem dX8_panes_100 : decode cX8_panes 100 = .ok (.if_icmp .le 6, 3) := dk_164 0 6 (dk_at dksX8_panes_4 7 rfl rfl)
theorem dX8_panes_103 : decode cX8_panes 103 = .ok (.bipush (-12), 2) := dk_16 244 (dk_at dksX8_panes_4 10 rfl rfl)
theorem dX8_panes_105 : decode cX8_panes 105 = .ok (.ireturn, 1) := dk_172 (dk_at dksX8_panes_4 12 rfl rfl)
theorem dX8_panes_106 : decode cX8_panes 106 = .ok (.bipush 40, 2) := dk_16 40 (dk_at dksX8_panes_4 13 rfl rfl)
theorem dX8_panes_108 : decode cX8_panes 108 = .ok (.iload_n 1, 1) := dk_27 (dk_at dksX8_panes_4 15 rfl rfl)
theorem dX8_panes_109 : decode cX8_panes 109 = .ok (.imul, 1) := dk_104 (dk_at dksX8_panes_4 16 rfl rfl)
theorem dX8_panes_110 : decode cX8_panes 110 = .ok (.iload_n 3, 1) := dk_29 (dk_at dksX8_panes_4 17 rfl rfl)
theorem dX8_panes_111 : decode cX8_panes 111 = .ok (.iadd, 1) := dk_96 (dk_at dksX8_panes_4 18 rfl rfl)
theorem dX8_panes_112 : decode cX8_panes 112 = .ok (.iconst 3, 1) := dk_6 (dk_at dksX8_panes_4 19 rfl rfl)
theorem dX8_panes_113 : decode cX8_panes 113 = .ok (.iload 6, 2) := dk_21 6 (dk_at dksX8_panes_4 20 rfl rfl)
theorem dX8_panes_115 : decode cX8_panes 115 = .ok (.imul, 1) := dk_104 (dk_at dksX8_panes_4 22 rfl rfl)
theorem dX8_panes_116 : decode cX8_panes 116 = .ok (.iadd, 1) := dk_96 (dk_at dksX8_panes_4 23 rfl rfl)
theorem dX8_panes_117 : decode cX8_panes 117 = .ok (.istore 7, 2) := dk_54 7 (dk_at dksX8_panes_5 0 rfl rfl)
theorem dX8_panes_119 : decode cX8_panes 119 = .ok (.iload 5, 2) := dk_21 5 (dk_at dksX8_panes_5 2 rfl rfl)
theorem dX8_panes_121 : decode cX8_panes 121 = .ok (.aload_n 0, 1) := dk_42 (dk_at dksX8_panes_5 4 rfl rfl)
theorem dX8_panes_122 : decode cX8_panes 122 = .ok (.aload_n 0, 1) := dk_42 (dk_at dksX8_panes_5 5 rfl rfl)
theorem dX8_panes_123 : decode cX8_panes 123 = .ok (.getfield 75, 3) := dk_180 0 75 (dk_at dksX8_panes_5 6 rfl rfl)
theorem dX8_panes_126 : decode cX8_panes 126 = .ok (.iload 7, 2) := dk_21 7 (dk_at dksX8_panes_5 9 rfl rfl)
theorem dX8_panes_128 : decode cX8_panes 128 = .ok (.iaload, 1) := dk_46 (dk_at dksX8_panes_5 11 rfl rfl)
theorem dX8_panes_129 : decode cX8_panes 129 = .ok (.aload_n 0, 1) := dk_42 (dk_at dksX8_panes_5 12 rfl rfl)
theorem dX8_panes_130 : decode cX8_panes 130 = .ok (.getfield 75, 3) := dk_180 0 75 (dk_at dksX8_panes_5 13 rfl rfl)
theorem dX8_panes_133 : decode cX8_panes 133 = .ok (.iload 7, 2) := dk_21 7 (dk_at dksX8_panes_5 16 rfl rfl)
theorem dX8_panes_135 : decode cX8_panes 135 = .ok (.iconst 1, 1) := dk_4 (dk_at dksX8_panes_5 18 rfl rfl)
theorem dX8_panes_136 : decode cX8_panes 136 = .ok (.iadd, 1) := dk_96 (dk_at dksX8_panes_5 19 rfl rfl)
theorem dX8_panes_137 : decode cX8_panes 137 = .ok (.iaload, 1) := dk_46 (dk_at dksX8_panes_5 20 rfl rfl)
theorem dX8_panes_138 : decode cX8_panes 138 = .ok (.aload_n 0, 1) := dk_42 (dk_at dksX8_panes_5 21 rfl rfl)
theorem dX8_panes_139 : decode cX8_panes 139 = .ok (.getfield 75, 3) := dk_180 0 75 (dk_at dksX8_panes_6 0 rfl rfl)
theorem dX8_panes_142 : decode cX8_panes 142 = .ok (.iload 7, 2) := dk_21 7 (dk_at dksX8_panes_6 3 rfl rfl)
theorem dX8_panes_144 : decode cX8_panes 144 = .ok (.iconst 2, 1) := dk_5 (dk_at dksX8_panes_6 5 rfl rfl)
theorem dX8_panes_145 : decode cX8_panes 145 = .ok (.iadd, 1) := dk_96 (dk_at dksX8_panes_6 6 rfl rfl)
theorem dX8_panes_146 : decode cX8_panes 146 = .ok (.iaload, 1) := dk_46 (dk_at dksX8_panes_6 7 rfl rfl)
theorem dX8_panes_147 : decode cX8_panes 147 = .ok (.invokevirtual 366, 3) := dk_182 1 110 (dk_at dksX8_panes_6 8 rfl rfl)
theorem dX8_panes_150 : decode cX8_panes 150 = .ok (.ifCond .lt 7, 3) := dk_155 0 7 (dk_at dksX8_panes_6 11 rfl rfl)
theorem dX8_panes_153 : decode cX8_panes 153 = .ok (.iconst 1, 1) := dk_4 (dk_at dksX8_panes_6 14 rfl rfl)
theorem dX8_panes_154 : decode cX8_panes 154 = .ok (.goto 4, 3) := dk_167 0 4 (dk_at dksX8_panes_6 15 rfl rfl)
theorem dX8_panes_157 : decode cX8_panes 157 = .ok (.iconst 0, 1) := dk_3 (dk_at dksX8_panes_6 18 rfl rfl)
theorem dX8_panes_158 : decode cX8_panes 158 = .ok (.iadd, 1) := dk_96 (dk_at dksX8_panes_6 19 rfl rfl)
theorem dX8_panes_159 : decode cX8_panes 159 = .ok (.istore 5, 2) := dk_54 5 (dk_at dksX8_panes_6 20 rfl rfl)
theorem dX8_panes_161 : decode cX8_panes 161 = .ok (.iinc 6 1, 3) := dk_132 6 1 (dk_at dksX8_panes_7 0 rfl rfl)
theorem dX8_panes_164 : decode cX8_panes 164 = .ok (.goto (-89), 3) := dk_167 255 167 (dk_at dksX8_panes_7 3 rfl rfl)
theorem dX8_panes_167 : decode cX8_panes 167 = .ok (.iload 5, 2) := dk_21 5 (dk_at dksX8_panes_7 6 rfl rfl)
theorem dX8_panes_169 : decode cX8_panes 169 = .ok (.ireturn, 1) := dk_172 (dk_at dksX8_panes_7 8 rfl rfl)
abbrev cX8_taken : ByteArray := prog_16_method_77_code
def yX8_taken : MethodName := ⟨RX8, "taken", "(II)I"⟩
def dkwX8_taken_2 : List UInt8 := [62, 167, 255, 241, 29, 28, 160, 0, 14, 42, 180, 0, 35, 6, 27, 104, 46, 167, 0, 5, 16, 243, 172]
abbrev dktX8_taken_2 : List UInt8 := dkwX8_taken_2 ++ []
def dkwX8_taken_1 : List UInt8 := [16, 245, 172, 42, 180, 0, 32, 27, 46, 62, 29, 2, 159, 0, 16, 29, 28, 159, 0, 11, 29, 184, 1, 113]
abbrev dktX8_taken_1 : List UInt8 := dkwX8_taken_1 ++ dktX8_taken_2
def dkwX8_taken_0 : List UInt8 := [28, 133, 9, 20, 0, 122, 184, 0, 88, 154, 0, 6, 16, 254, 172, 42, 27, 182, 0, 98, 154, 0, 6]
abbrev dktX8_taken_0 : List UInt8 := dkwX8_taken_0 ++ dktX8_taken_1
theorem dksX8_taken_0 : cX8_taken.data.toList.drop 0 = dktX8_taken_0 := by decide +kernel
theorem dksX8_taken_1 : cX8_taken.data.toList.drop 23 = dktX8_taken_1 := dk_seg dksX8_taken_0 23 rfl rfl
theorem dksX8_taken_2 : cX8_taken.data.toList.drop 47 = dktX8_taken_2 := dk_seg dksX8_taken_1 24 rfl rfl
theorem dX8_taken_0 : decode cX8_taken 0 = .ok (.iload_n 2, 1) := dk_28 (dk_at dksX8_taken_0 0 rfl rfl)
theorem dX8_taken_1 : decode cX8_taken 1 = .ok (.i2l, 1) := dk_133 (dk_at dksX8_taken_0 1 rfl rfl)
theorem dX8_taken_2 : decode cX8_taken 2 = .ok (.lconst 0, 1) := dk_9 (dk_at dksX8_taken_0 2 rfl rfl)
theorem dX8_taken_3 : decode cX8_taken 3 = .ok (.ldc2_w 122, 3) := dk_20 0 122 (dk_at dksX8_taken_0 3 rfl rfl)
theorem dX8_taken_6 : decode cX8_taken 6 = .ok (.invokestatic 88, 3) := dk_184 0 88 (dk_at dksX8_taken_0 6 rfl rfl)
theorem dX8_taken_9 : decode cX8_taken 9 = .ok (.ifCond .ne 6, 3) := dk_154 0 6 (dk_at dksX8_taken_0 9 rfl rfl)
theorem dX8_taken_12 : decode cX8_taken 12 = .ok (.bipush (-2), 2) := dk_16 254 (dk_at dksX8_taken_0 12 rfl rfl)
theorem dX8_taken_14 : decode cX8_taken 14 = .ok (.ireturn, 1) := dk_172 (dk_at dksX8_taken_0 14 rfl rfl)
theorem dX8_taken_15 : decode cX8_taken 15 = .ok (.aload_n 0, 1) := dk_42 (dk_at dksX8_taken_0 15 rfl rfl)
theorem dX8_taken_16 : decode cX8_taken 16 = .ok (.iload_n 1, 1) := dk_27 (dk_at dksX8_taken_0 16 rfl rfl)
theorem dX8_taken_17 : decode cX8_taken 17 = .ok (.invokevirtual 98, 3) := dk_182 0 98 (dk_at dksX8_taken_0 17 rfl rfl)
theorem dX8_taken_20 : decode cX8_taken 20 = .ok (.ifCond .ne 6, 3) := dk_154 0 6 (dk_at dksX8_taken_0 20 rfl rfl)
theorem dX8_taken_23 : decode cX8_taken 23 = .ok (.bipush (-11), 2) := dk_16 245 (dk_at dksX8_taken_1 0 rfl rfl)
theorem dX8_taken_25 : decode cX8_taken 25 = .ok (.ireturn, 1) := dk_172 (dk_at dksX8_taken_1 2 rfl rfl)
theorem dX8_taken_26 : decode cX8_taken 26 = .ok (.aload_n 0, 1) := dk_42 (dk_at dksX8_taken_1 3 rfl rfl)
theorem dX8_taken_27 : decode cX8_taken 27 = .ok (.getfield 32, 3) := dk_180 0 32 (dk_at dksX8_taken_1 4 rfl rfl)
theorem dX8_taken_30 : decode cX8_taken 30 = .ok (.iload_n 1, 1) := dk_27 (dk_at dksX8_taken_1 7 rfl rfl)
theorem dX8_taken_31 : decode cX8_taken 31 = .ok (.iaload, 1) := dk_46 (dk_at dksX8_taken_1 8 rfl rfl)
theorem dX8_taken_32 : decode cX8_taken 32 = .ok (.istore_n 3, 1) := dk_62 (dk_at dksX8_taken_1 9 rfl rfl)
theorem dX8_taken_33 : decode cX8_taken 33 = .ok (.iload_n 3, 1) := dk_29 (dk_at dksX8_taken_1 10 rfl rfl)
theorem dX8_taken_34 : decode cX8_taken 34 = .ok (.iconst (-1), 1) := dk_2 (dk_at dksX8_taken_1 11 rfl rfl)
theorem dX8_taken_35 : decode cX8_taken 35 = .ok (.if_icmp .eq 16, 3) := dk_159 0 16 (dk_at dksX8_taken_1 12 rfl rfl)
theorem dX8_taken_38 : decode cX8_taken 38 = .ok (.iload_n 3, 1) := dk_29 (dk_at dksX8_taken_1 15 rfl rfl)
theorem dX8_taken_39 : decode cX8_taken 39 = .ok (.iload_n 2, 1) := dk_28 (dk_at dksX8_taken_1 16 rfl rfl)
theorem dX8_taken_40 : decode cX8_taken 40 = .ok (.if_icmp .eq 11, 3) := dk_159 0 11 (dk_at dksX8_taken_1 17 rfl rfl)
theorem dX8_taken_43 : decode cX8_taken 43 = .ok (.iload_n 3, 1) := dk_29 (dk_at dksX8_taken_1 20 rfl rfl)
theorem dX8_taken_44 : decode cX8_taken 44 = .ok (.invokestatic 369, 3) := dk_184 1 113 (dk_at dksX8_taken_1 21 rfl rfl)
theorem dX8_taken_47 : decode cX8_taken 47 = .ok (.istore_n 3, 1) := dk_62 (dk_at dksX8_taken_2 0 rfl rfl)
theorem dX8_taken_48 : decode cX8_taken 48 = .ok (.goto (-15), 3) := dk_167 255 241 (dk_at dksX8_taken_2 1 rfl rfl)
theorem dX8_taken_51 : decode cX8_taken 51 = .ok (.iload_n 3, 1) := dk_29 (dk_at dksX8_taken_2 4 rfl rfl)
theorem dX8_taken_52 : decode cX8_taken 52 = .ok (.iload_n 2, 1) := dk_28 (dk_at dksX8_taken_2 5 rfl rfl)
theorem dX8_taken_53 : decode cX8_taken 53 = .ok (.if_icmp .ne 14, 3) := dk_160 0 14 (dk_at dksX8_taken_2 6 rfl rfl)
theorem dX8_taken_56 : decode cX8_taken 56 = .ok (.aload_n 0, 1) := dk_42 (dk_at dksX8_taken_2 9 rfl rfl)
theorem dX8_taken_57 : decode cX8_taken 57 = .ok (.getfield 35, 3) := dk_180 0 35 (dk_at dksX8_taken_2 10 rfl rfl)
theorem dX8_taken_60 : decode cX8_taken 60 = .ok (.iconst 3, 1) := dk_6 (dk_at dksX8_taken_2 13 rfl rfl)
theorem dX8_taken_61 : decode cX8_taken 61 = .ok (.iload_n 1, 1) := dk_27 (dk_at dksX8_taken_2 14 rfl rfl)
theorem dX8_taken_62 : decode cX8_taken 62 = .ok (.imul, 1) := dk_104 (dk_at dksX8_taken_2 15 rfl rfl)
theorem dX8_taken_63 : decode cX8_taken 63 = .ok (.iaload, 1) := dk_46 (dk_at dksX8_taken_2 16 rfl rfl)
theorem dX8_taken_64 : decode cX8_taken 64 = .ok (.goto 5, 3) := dk_167 0 5 (dk_at dksX8_taken_2 17 rfl rfl)
theorem dX8_taken_67 : decode cX8_taken 67 = .ok (.bipush (-13), 2) := dk_16 243 (dk_at dksX8_taken_2 20 rfl rfl)
theorem dX8_taken_69 : decode cX8_taken 69 = .ok (.ireturn, 1) := dk_172 (dk_at dksX8_taken_2 22 rfl rfl)
abbrev cX8_over : ByteArray := prog_16_method_76_code
def yX8_over : MethodName := ⟨RX8, "over", "(I)I"⟩
def dkwX8_over_1 : List UInt8 := [167, 0, 4, 3, 172]
abbrev dktX8_over_1 : List UInt8 := dkwX8_over_1 ++ []
def dkwX8_over_0 : List UInt8 := [26, 154, 0, 7, 2, 167, 0, 22, 26, 6, 160, 0, 7, 4, 167, 0, 13, 26, 7, 160, 0, 7, 5]
abbrev dktX8_over_0 : List UInt8 := dkwX8_over_0 ++ dktX8_over_1
theorem dksX8_over_0 : cX8_over.data.toList.drop 0 = dktX8_over_0 := by decide +kernel
theorem dksX8_over_1 : cX8_over.data.toList.drop 23 = dktX8_over_1 := dk_seg dksX8_over_0 23 rfl rfl
theorem dX8_over_0 : decode cX8_over 0 = .ok (.iload_n 0, 1) := dk_26 (dk_at dksX8_over_0 0 rfl rfl)
theorem dX8_over_1 : decode cX8_over 1 = .ok (.ifCond .ne 7, 3) := dk_154 0 7 (dk_at dksX8_over_0 1 rfl rfl)
theorem dX8_over_4 : decode cX8_over 4 = .ok (.iconst (-1), 1) := dk_2 (dk_at dksX8_over_0 4 rfl rfl)
theorem dX8_over_5 : decode cX8_over 5 = .ok (.goto 22, 3) := dk_167 0 22 (dk_at dksX8_over_0 5 rfl rfl)
theorem dX8_over_8 : decode cX8_over 8 = .ok (.iload_n 0, 1) := dk_26 (dk_at dksX8_over_0 8 rfl rfl)
theorem dX8_over_9 : decode cX8_over 9 = .ok (.iconst 3, 1) := dk_6 (dk_at dksX8_over_0 9 rfl rfl)
theorem dX8_over_10 : decode cX8_over 10 = .ok (.if_icmp .ne 7, 3) := dk_160 0 7 (dk_at dksX8_over_0 10 rfl rfl)
theorem dX8_over_13 : decode cX8_over 13 = .ok (.iconst 1, 1) := dk_4 (dk_at dksX8_over_0 13 rfl rfl)
theorem dX8_over_14 : decode cX8_over 14 = .ok (.goto 13, 3) := dk_167 0 13 (dk_at dksX8_over_0 14 rfl rfl)
theorem dX8_over_17 : decode cX8_over 17 = .ok (.iload_n 0, 1) := dk_26 (dk_at dksX8_over_0 17 rfl rfl)
theorem dX8_over_18 : decode cX8_over 18 = .ok (.iconst 4, 1) := dk_7 (dk_at dksX8_over_0 18 rfl rfl)
theorem dX8_over_19 : decode cX8_over 19 = .ok (.if_icmp .ne 7, 3) := dk_160 0 7 (dk_at dksX8_over_0 19 rfl rfl)
theorem dX8_over_22 : decode cX8_over 22 = .ok (.iconst 2, 1) := dk_5 (dk_at dksX8_over_0 22 rfl rfl)
theorem dX8_over_23 : decode cX8_over 23 = .ok (.goto 4, 3) := dk_167 0 4 (dk_at dksX8_over_1 0 rfl rfl)
theorem dX8_over_26 : decode cX8_over 26 = .ok (.iconst 0, 1) := dk_3 (dk_at dksX8_over_1 3 rfl rfl)
theorem dX8_over_27 : decode cX8_over 27 = .ok (.ireturn, 1) := dk_172 (dk_at dksX8_over_1 4 rfl rfl)
theorem q118 : (Jvm.Cond.initialized "PaneKeepsWeatherModel") ∈ lw_all := lw_g (lw_at lw_m1 18 rfl) rfl
theorem q1285 : (Jvm.Cond.instantiable "PaneKeepsWeatherModel" (49 : Nat)) ∈ lw_all := lw_g (lw_at lw_m5 225 rfl) rfl
theorem q1287 : (Jvm.Cond.instanceMethod ({ cls := "PaneKeepsWeatherModel", name := "<init>", desc := "()V" } : Jvm.MethodName)) ∈ lw_all := lw_g (lw_at lw_m5 227 rfl) rfl
theorem q1288 : (Jvm.Cond.code ({ cls := "PaneKeepsWeatherModel", name := "<init>", desc := "()V" } : Jvm.MethodName) prog_16_method_4_code (2 : Nat) (Option.none : Option Jvm.ClassFile.FieldType)) ∈ lw_all := lw_g (lw_at lw_m5 228 rfl) rfl
theorem q1289 : (Jvm.Cond.methodLink "PaneKeepsWeatherModel" (7 : Nat) ({ cls := "java/lang/Object", name := "<init>", desc := "()V" } : Jvm.MethodName)) ∈ lw_all := lw_g (lw_at lw_m5 229 rfl) rfl
theorem q1290 : (Jvm.Cond.methodLink "PaneKeepsWeatherModel" (78 : Nat) ({ cls := "PaneKeepsWeatherModel", name := "spell", desc := "(IIIIIIIII)V" } : Jvm.MethodName)) ∈ lw_all := lw_g (lw_at lw_m5 230 rfl) rfl
theorem q1291 : (Jvm.Cond.privateMethod ({ cls := "PaneKeepsWeatherModel", name := "spell", desc := "(IIIIIIIII)V" } : Jvm.MethodName)) ∈ lw_tbl := lw_at lw_m5 231 rfl
theorem q1292 : (Jvm.Cond.instanceMethod ({ cls := "PaneKeepsWeatherModel", name := "spell", desc := "(IIIIIIIII)V" } : Jvm.MethodName)) ∈ lw_all := lw_g (lw_at lw_m5 232 rfl) rfl
theorem q1293 : (Jvm.Cond.code ({ cls := "PaneKeepsWeatherModel", name := "spell", desc := "(IIIIIIIII)V" } : Jvm.MethodName) prog_16_method_5_code (10 : Nat) (Option.none : Option Jvm.ClassFile.FieldType)) ∈ lw_all := lw_g (lw_at lw_m5 233 rfl) rfl
theorem q1294 : (Jvm.Cond.fieldLink "PaneKeepsWeatherModel" (13 : Nat) "PaneKeepsWeatherModel" "texts" "[I") ∈ lw_all := lw_g (lw_at lw_m5 234 rfl) rfl
theorem q1295 : (Jvm.Cond.fieldLink "PaneKeepsWeatherModel" (17 : Nat) "PaneKeepsWeatherModel" "textSize" "[I") ∈ lw_all := lw_g (lw_at lw_m5 235 rfl) rfl
theorem q1296 : (Jvm.Cond.fieldLink "PaneKeepsWeatherModel" (82 : Nat) "PaneKeepsWeatherModel" "textCount" "I") ∈ lw_all := lw_g (lw_at lw_m5 236 rfl) rfl
theorem q1297 : (Jvm.Cond.fieldLink "PaneKeepsWeatherModel" (119 : Nat) "PaneKeepsWeatherModel" "rule" "I") ∈ lw_all := lw_g (lw_at lw_m5 237 rfl) rfl
theorem q1298 : (Jvm.Cond.fieldLink "PaneKeepsWeatherModel" (20 : Nat) "PaneKeepsWeatherModel" "tape" "[I") ∈ lw_all := lw_g (lw_at lw_m5 238 rfl) rfl
theorem q1299 : (Jvm.Cond.fieldLink "PaneKeepsWeatherModel" (153 : Nat) "PaneKeepsWeatherModel" "taped" "I") ∈ lw_all := lw_g (lw_at lw_m5 239 rfl) rfl
theorem q1300 : (Jvm.Cond.fieldLink "PaneKeepsWeatherModel" (23 : Nat) "PaneKeepsWeatherModel" "purse" "I") ∈ lw_all := lw_g (lw_at lw_m6 0 rfl) rfl
theorem q1301 : (Jvm.Cond.fieldLink "PaneKeepsWeatherModel" (26 : Nat) "PaneKeepsWeatherModel" "needs" "[I") ∈ lw_all := lw_g (lw_at lw_m6 1 rfl) rfl
theorem q1302 : (Jvm.Cond.fieldLink "PaneKeepsWeatherModel" (29 : Nat) "PaneKeepsWeatherModel" "there" "[I") ∈ lw_all := lw_g (lw_at lw_m6 2 rfl) rfl
theorem q1303 : (Jvm.Cond.fieldLink "PaneKeepsWeatherModel" (32 : Nat) "PaneKeepsWeatherModel" "kinds" "[I") ∈ lw_all := lw_g (lw_at lw_m6 3 rfl) rfl
theorem q1304 : (Jvm.Cond.fieldLink "PaneKeepsWeatherModel" (35 : Nat) "PaneKeepsWeatherModel" "rows" "[I") ∈ lw_all := lw_g (lw_at lw_m6 4 rfl) rfl
theorem q1305 : (Jvm.Cond.fieldLink "PaneKeepsWeatherModel" (128 : Nat) "PaneKeepsWeatherModel" "broken" "I") ∈ lw_all := lw_g (lw_at lw_m6 5 rfl) rfl
theorem q1306 : (Jvm.Cond.fieldLink "PaneKeepsWeatherModel" (85 : Nat) "PaneKeepsWeatherModel" "many" "I") ∈ lw_all := lw_g (lw_at lw_m6 6 rfl) rfl
theorem q1307 : (Jvm.Cond.fieldLink "PaneKeepsWeatherModel" (211 : Nat) "PaneKeepsWeatherModel" "ofHour" "I") ∈ lw_all := lw_g (lw_at lw_m6 7 rfl) rfl
theorem q1308 : (Jvm.Cond.fieldLink "PaneKeepsWeatherModel" (214 : Nat) "PaneKeepsWeatherModel" "ofDay" "I") ∈ lw_all := lw_g (lw_at lw_m6 8 rfl) rfl
theorem q1309 : (Jvm.Cond.fieldLink "PaneKeepsWeatherModel" (217 : Nat) "PaneKeepsWeatherModel" "ofWet" "I") ∈ lw_all := lw_g (lw_at lw_m6 9 rfl) rfl
theorem q1310 : (Jvm.Cond.fieldLink "PaneKeepsWeatherModel" (220 : Nat) "PaneKeepsWeatherModel" "ofNumber" "I") ∈ lw_all := lw_g (lw_at lw_m6 10 rfl) rfl
theorem q1311 : (Jvm.Cond.fieldLink "PaneKeepsWeatherModel" (223 : Nat) "PaneKeepsWeatherModel" "ofOpening" "I") ∈ lw_all := lw_g (lw_at lw_m6 11 rfl) rfl
theorem q1312 : (Jvm.Cond.fieldLink "PaneKeepsWeatherModel" (226 : Nat) "PaneKeepsWeatherModel" "ofBetween" "I") ∈ lw_all := lw_g (lw_at lw_m6 12 rfl) rfl
theorem q1313 : (Jvm.Cond.fieldLink "PaneKeepsWeatherModel" (159 : Nat) "PaneKeepsWeatherModel" "from" "I") ∈ lw_all := lw_g (lw_at lw_m6 13 rfl) rfl
theorem q1314 : (Jvm.Cond.fieldLink "PaneKeepsWeatherModel" (156 : Nat) "PaneKeepsWeatherModel" "size" "I") ∈ lw_all := lw_g (lw_at lw_m6 14 rfl) rfl
theorem q1315 : (Jvm.Cond.fieldLink "PaneKeepsWeatherModel" (162 : Nat) "PaneKeepsWeatherModel" "here" "I") ∈ lw_all := lw_g (lw_at lw_m6 15 rfl) rfl
theorem q1316 : (Jvm.Cond.fieldLink "PaneKeepsWeatherModel" (171 : Nat) "PaneKeepsWeatherModel" "token" "I") ∈ lw_all := lw_g (lw_at lw_m6 16 rfl) rfl
theorem q1317 : (Jvm.Cond.fieldLink "PaneKeepsWeatherModel" (168 : Nat) "PaneKeepsWeatherModel" "tokenAt" "I") ∈ lw_all := lw_g (lw_at lw_m6 17 rfl) rfl
theorem q1318 : (Jvm.Cond.fieldLink "PaneKeepsWeatherModel" (182 : Nat) "PaneKeepsWeatherModel" "tokenWorth" "J") ∈ lw_all := lw_g (lw_at lw_m6 18 rfl) rfl
theorem q1319 : (Jvm.Cond.fieldLink "PaneKeepsWeatherModel" (198 : Nat) "PaneKeepsWeatherModel" "open" "I") ∈ lw_all := lw_g (lw_at lw_m6 19 rfl) rfl
theorem q1320 : (Jvm.Cond.fieldLink "PaneKeepsWeatherModel" (188 : Nat) "PaneKeepsWeatherModel" "bad" "Z") ∈ lw_all := lw_g (lw_at lw_m6 20 rfl) rfl
theorem q1321 : (Jvm.Cond.fieldLink "PaneKeepsWeatherModel" (192 : Nat) "PaneKeepsWeatherModel" "fault" "I") ∈ lw_all := lw_g (lw_at lw_m6 21 rfl) rfl
theorem q1322 : (Jvm.Cond.fieldLink "PaneKeepsWeatherModel" (38 : Nat) "PaneKeepsWeatherModel" "sums" "[I") ∈ lw_all := lw_g (lw_at lw_m6 22 rfl) rfl
theorem q1323 : (Jvm.Cond.fieldLink "PaneKeepsWeatherModel" (41 : Nat) "PaneKeepsWeatherModel" "prices" "[I") ∈ lw_all := lw_g (lw_at lw_m6 23 rfl) rfl
theorem q1324 : (Jvm.Cond.fieldLink "PaneKeepsWeatherModel" (44 : Nat) "PaneKeepsWeatherModel" "hates" "[Z") ∈ lw_all := lw_g (lw_at lw_m6 24 rfl) rfl
theorem q1325 : (Jvm.Cond.fieldLink "PaneKeepsWeatherModel" (48 : Nat) "PaneKeepsWeatherModel" "tried" "[I") ∈ lw_all := lw_g (lw_at lw_m6 25 rfl) rfl
theorem q1326 : (Jvm.Cond.fieldLink "PaneKeepsWeatherModel" (295 : Nat) "PaneKeepsWeatherModel" "goal" "I") ∈ lw_all := lw_g (lw_at lw_m6 26 rfl) rfl
theorem q1327 : (Jvm.Cond.fieldLink "PaneKeepsWeatherModel" (298 : Nat) "PaneKeepsWeatherModel" "isFound" "Z") ∈ lw_all := lw_g (lw_at lw_m6 27 rfl) rfl
theorem q1328 : (Jvm.Cond.fieldLink "PaneKeepsWeatherModel" (304 : Nat) "PaneKeepsWeatherModel" "bestDigits" "I") ∈ lw_all := lw_g (lw_at lw_m6 28 rfl) rfl
theorem q1329 : (Jvm.Cond.fieldLink "PaneKeepsWeatherModel" (301 : Nat) "PaneKeepsWeatherModel" "bestValue" "I") ∈ lw_all := lw_g (lw_at lw_m6 29 rfl) rfl
theorem q1330 : (Jvm.Cond.fieldLink "PaneKeepsWeatherModel" (51 : Nat) "PaneKeepsWeatherModel" "daysWas" "[I") ∈ lw_all := lw_g (lw_at lw_m6 30 rfl) rfl
theorem q1331 : (Jvm.Cond.fieldLink "PaneKeepsWeatherModel" (54 : Nat) "PaneKeepsWeatherModel" "rowsKept" "[I") ∈ lw_all := lw_g (lw_at lw_m6 31 rfl) rfl
theorem q1332 : (Jvm.Cond.fieldLink "PaneKeepsWeatherModel" (57 : Nat) "PaneKeepsWeatherModel" "needsKept" "[I") ∈ lw_all := lw_g (lw_at lw_m6 32 rfl) rfl
theorem q1333 : (Jvm.Cond.fieldLink "PaneKeepsWeatherModel" (60 : Nat) "PaneKeepsWeatherModel" "thereKept" "[I") ∈ lw_all := lw_g (lw_at lw_m6 33 rfl) rfl
theorem q1334 : (Jvm.Cond.fieldLink "PaneKeepsWeatherModel" (63 : Nat) "PaneKeepsWeatherModel" "manyKept" "I") ∈ lw_all := lw_g (lw_at lw_m6 34 rfl) rfl
theorem q1335 : (Jvm.Cond.fieldLink "PaneKeepsWeatherModel" (351 : Nat) "PaneKeepsWeatherModel" "purseKept" "I") ∈ lw_all := lw_g (lw_at lw_m6 35 rfl) rfl
theorem q1336 : (Jvm.Cond.fieldLink "PaneKeepsWeatherModel" (354 : Nat) "PaneKeepsWeatherModel" "brokenKept" "I") ∈ lw_all := lw_g (lw_at lw_m6 36 rfl) rfl
theorem q1337 : (Jvm.Cond.fieldLink "PaneKeepsWeatherModel" (357 : Nat) "PaneKeepsWeatherModel" "ruleKept" "I") ∈ lw_all := lw_g (lw_at lw_m6 37 rfl) rfl
theorem q1338 : (Jvm.Cond.fieldLink "PaneKeepsWeatherModel" (66 : Nat) "PaneKeepsWeatherModel" "isThere" "[Z") ∈ lw_all := lw_g (lw_at lw_m6 38 rfl) rfl
theorem q1339 : (Jvm.Cond.fieldLink "PaneKeepsWeatherModel" (69 : Nat) "PaneKeepsWeatherModel" "sorts" "[I") ∈ lw_all := lw_g (lw_at lw_m6 39 rfl) rfl
theorem q1340 : (Jvm.Cond.fieldLink "PaneKeepsWeatherModel" (72 : Nat) "PaneKeepsWeatherModel" "sheetSize" "[I") ∈ lw_all := lw_g (lw_at lw_m6 40 rfl) rfl
theorem q1341 : (Jvm.Cond.fieldLink "PaneKeepsWeatherModel" (75 : Nat) "PaneKeepsWeatherModel" "items" "[I") ∈ lw_all := lw_g (lw_at lw_m6 41 rfl) rfl
theorem q1342 : (Jvm.Cond.lays "PaneKeepsWeatherModel" "PaneKeepsWeatherModel" "thrown" "I") ∈ lw_all := lw_g (lw_at lw_m6 42 rfl) rfl
theorem q1343 : (Jvm.Cond.soleField "PaneKeepsWeatherModel" "thrown") ∈ lw_all := lw_g (lw_at lw_m6 43 rfl) rfl
theorem q1344 : (Jvm.Cond.laysFinal "PaneKeepsWeatherModel" "PaneKeepsWeatherModel" "texts" "[I") ∈ lw_all := lw_g (lw_at lw_m6 44 rfl) rfl
theorem q1345 : (Jvm.Cond.soleField "PaneKeepsWeatherModel" "texts") ∈ lw_all := lw_g (lw_at lw_m6 45 rfl) rfl
theorem q1346 : (Jvm.Cond.laysFinal "PaneKeepsWeatherModel" "PaneKeepsWeatherModel" "textSize" "[I") ∈ lw_all := lw_g (lw_at lw_m6 46 rfl) rfl
theorem q1347 : (Jvm.Cond.soleField "PaneKeepsWeatherModel" "textSize") ∈ lw_all := lw_g (lw_at lw_m6 47 rfl) rfl
theorem q1348 : (Jvm.Cond.lays "PaneKeepsWeatherModel" "PaneKeepsWeatherModel" "textCount" "I") ∈ lw_all := lw_g (lw_at lw_m6 48 rfl) rfl
theorem q1349 : (Jvm.Cond.soleField "PaneKeepsWeatherModel" "textCount") ∈ lw_all := lw_g (lw_at lw_m6 49 rfl) rfl
theorem q1350 : (Jvm.Cond.lays "PaneKeepsWeatherModel" "PaneKeepsWeatherModel" "rule" "I") ∈ lw_all := lw_g (lw_at lw_m6 50 rfl) rfl
theorem q1351 : (Jvm.Cond.soleField "PaneKeepsWeatherModel" "rule") ∈ lw_all := lw_g (lw_at lw_m6 51 rfl) rfl
theorem q1352 : (Jvm.Cond.laysFinal "PaneKeepsWeatherModel" "PaneKeepsWeatherModel" "tape" "[I") ∈ lw_all := lw_g (lw_at lw_m6 52 rfl) rfl
theorem q1353 : (Jvm.Cond.soleField "PaneKeepsWeatherModel" "tape") ∈ lw_all := lw_g (lw_at lw_m6 53 rfl) rfl
theorem q1354 : (Jvm.Cond.lays "PaneKeepsWeatherModel" "PaneKeepsWeatherModel" "taped" "I") ∈ lw_all := lw_g (lw_at lw_m6 54 rfl) rfl
theorem q1355 : (Jvm.Cond.soleField "PaneKeepsWeatherModel" "taped") ∈ lw_all := lw_g (lw_at lw_m6 55 rfl) rfl
theorem q1356 : (Jvm.Cond.lays "PaneKeepsWeatherModel" "PaneKeepsWeatherModel" "purse" "I") ∈ lw_all := lw_g (lw_at lw_m6 56 rfl) rfl
theorem q1357 : (Jvm.Cond.soleField "PaneKeepsWeatherModel" "purse") ∈ lw_all := lw_g (lw_at lw_m6 57 rfl) rfl
theorem q1358 : (Jvm.Cond.laysFinal "PaneKeepsWeatherModel" "PaneKeepsWeatherModel" "needs" "[I") ∈ lw_all := lw_g (lw_at lw_m6 58 rfl) rfl
theorem q1359 : (Jvm.Cond.soleField "PaneKeepsWeatherModel" "needs") ∈ lw_all := lw_g (lw_at lw_m6 59 rfl) rfl
theorem q1360 : (Jvm.Cond.laysFinal "PaneKeepsWeatherModel" "PaneKeepsWeatherModel" "there" "[I") ∈ lw_all := lw_g (lw_at lw_m6 60 rfl) rfl
theorem q1361 : (Jvm.Cond.soleField "PaneKeepsWeatherModel" "there") ∈ lw_all := lw_g (lw_at lw_m6 61 rfl) rfl
theorem q1362 : (Jvm.Cond.laysFinal "PaneKeepsWeatherModel" "PaneKeepsWeatherModel" "kinds" "[I") ∈ lw_all := lw_g (lw_at lw_m6 62 rfl) rfl
theorem q1363 : (Jvm.Cond.soleField "PaneKeepsWeatherModel" "kinds") ∈ lw_all := lw_g (lw_at lw_m6 63 rfl) rfl
theorem q1364 : (Jvm.Cond.laysFinal "PaneKeepsWeatherModel" "PaneKeepsWeatherModel" "rows" "[I") ∈ lw_all := lw_g (lw_at lw_m6 64 rfl) rfl
theorem q1365 : (Jvm.Cond.soleField "PaneKeepsWeatherModel" "rows") ∈ lw_all := lw_g (lw_at lw_m6 65 rfl) rfl
theorem q1366 : (Jvm.Cond.lays "PaneKeepsWeatherModel" "PaneKeepsWeatherModel" "broken" "I") ∈ lw_all := lw_g (lw_at lw_m6 66 rfl) rfl
theorem q1367 : (Jvm.Cond.soleField "PaneKeepsWeatherModel" "broken") ∈ lw_all := lw_g (lw_at lw_m6 67 rfl) rfl
theorem q1368 : (Jvm.Cond.lays "PaneKeepsWeatherModel" "PaneKeepsWeatherModel" "many" "I") ∈ lw_all := lw_g (lw_at lw_m6 68 rfl) rfl
theorem q1369 : (Jvm.Cond.soleField "PaneKeepsWeatherModel" "many") ∈ lw_all := lw_g (lw_at lw_m6 69 rfl) rfl
theorem q1370 : (Jvm.Cond.lays "PaneKeepsWeatherModel" "PaneKeepsWeatherModel" "ofHour" "I") ∈ lw_all := lw_g (lw_at lw_m6 70 rfl) rfl
theorem q1371 : (Jvm.Cond.soleField "PaneKeepsWeatherModel" "ofHour") ∈ lw_all := lw_g (lw_at lw_m6 71 rfl) rfl
theorem q1372 : (Jvm.Cond.lays "PaneKeepsWeatherModel" "PaneKeepsWeatherModel" "ofDay" "I") ∈ lw_all := lw_g (lw_at lw_m6 72 rfl) rfl
theorem q1373 : (Jvm.Cond.soleField "PaneKeepsWeatherModel" "ofDay") ∈ lw_all := lw_g (lw_at lw_m6 73 rfl) rfl
theorem q1374 : (Jvm.Cond.lays "PaneKeepsWeatherModel" "PaneKeepsWeatherModel" "ofWet" "I") ∈ lw_all := lw_g (lw_at lw_m6 74 rfl) rfl
theorem q1375 : (Jvm.Cond.soleField "PaneKeepsWeatherModel" "ofWet") ∈ lw_all := lw_g (lw_at lw_m6 75 rfl) rfl
theorem q1376 : (Jvm.Cond.lays "PaneKeepsWeatherModel" "PaneKeepsWeatherModel" "ofNumber" "I") ∈ lw_all := lw_g (lw_at lw_m6 76 rfl) rfl
theorem q1377 : (Jvm.Cond.soleField "PaneKeepsWeatherModel" "ofNumber") ∈ lw_all := lw_g (lw_at lw_m6 77 rfl) rfl
theorem q1378 : (Jvm.Cond.lays "PaneKeepsWeatherModel" "PaneKeepsWeatherModel" "ofOpening" "I") ∈ lw_all := lw_g (lw_at lw_m6 78 rfl) rfl
theorem q1379 : (Jvm.Cond.soleField "PaneKeepsWeatherModel" "ofOpening") ∈ lw_all := lw_g (lw_at lw_m6 79 rfl) rfl
theorem q1380 : (Jvm.Cond.lays "PaneKeepsWeatherModel" "PaneKeepsWeatherModel" "ofBetween" "I") ∈ lw_all := lw_g (lw_at lw_m6 80 rfl) rfl
theorem q1381 : (Jvm.Cond.soleField "PaneKeepsWeatherModel" "ofBetween") ∈ lw_all := lw_g (lw_at lw_m6 81 rfl) rfl
theorem q1382 : (Jvm.Cond.lays "PaneKeepsWeatherModel" "PaneKeepsWeatherModel" "from" "I") ∈ lw_all := lw_g (lw_at lw_m6 82 rfl) rfl
theorem q1383 : (Jvm.Cond.soleField "PaneKeepsWeatherModel" "from") ∈ lw_all := lw_g (lw_at lw_m6 83 rfl) rfl
theorem q1384 : (Jvm.Cond.lays "PaneKeepsWeatherModel" "PaneKeepsWeatherModel" "size" "I") ∈ lw_all := lw_g (lw_at lw_m6 84 rfl) rfl
theorem q1385 : (Jvm.Cond.soleField "PaneKeepsWeatherModel" "size") ∈ lw_all := lw_g (lw_at lw_m6 85 rfl) rfl
theorem q1386 : (Jvm.Cond.lays "PaneKeepsWeatherModel" "PaneKeepsWeatherModel" "here" "I") ∈ lw_all := lw_g (lw_at lw_m6 86 rfl) rfl
theorem q1387 : (Jvm.Cond.soleField "PaneKeepsWeatherModel" "here") ∈ lw_all := lw_g (lw_at lw_m6 87 rfl) rfl
theorem q1388 : (Jvm.Cond.lays "PaneKeepsWeatherModel" "PaneKeepsWeatherModel" "token" "I") ∈ lw_all := lw_g (lw_at lw_m6 88 rfl) rfl
theorem q1389 : (Jvm.Cond.soleField "PaneKeepsWeatherModel" "token") ∈ lw_all := lw_g (lw_at lw_m6 89 rfl) rfl
theorem q1390 : (Jvm.Cond.lays "PaneKeepsWeatherModel" "PaneKeepsWeatherModel" "tokenAt" "I") ∈ lw_all := lw_g (lw_at lw_m6 90 rfl) rfl
theorem q1391 : (Jvm.Cond.soleField "PaneKeepsWeatherModel" "tokenAt") ∈ lw_all := lw_g (lw_at lw_m6 91 rfl) rfl
theorem q1392 : (Jvm.Cond.lays "PaneKeepsWeatherModel" "PaneKeepsWeatherModel" "tokenWorth" "J") ∈ lw_all := lw_g (lw_at lw_m6 92 rfl) rfl
theorem q1393 : (Jvm.Cond.soleField "PaneKeepsWeatherModel" "tokenWorth") ∈ lw_all := lw_g (lw_at lw_m6 93 rfl) rfl
theorem q1394 : (Jvm.Cond.lays "PaneKeepsWeatherModel" "PaneKeepsWeatherModel" "open" "I") ∈ lw_all := lw_g (lw_at lw_m6 94 rfl) rfl
theorem q1395 : (Jvm.Cond.soleField "PaneKeepsWeatherModel" "open") ∈ lw_all := lw_g (lw_at lw_m6 95 rfl) rfl
theorem q1396 : (Jvm.Cond.lays "PaneKeepsWeatherModel" "PaneKeepsWeatherModel" "bad" "Z") ∈ lw_all := lw_g (lw_at lw_m6 96 rfl) rfl
theorem q1397 : (Jvm.Cond.soleField "PaneKeepsWeatherModel" "bad") ∈ lw_all := lw_g (lw_at lw_m6 97 rfl) rfl
theorem q1398 : (Jvm.Cond.lays "PaneKeepsWeatherModel" "PaneKeepsWeatherModel" "fault" "I") ∈ lw_all := lw_g (lw_at lw_m6 98 rfl) rfl
theorem q1399 : (Jvm.Cond.soleField "PaneKeepsWeatherModel" "fault") ∈ lw_all := lw_g (lw_at lw_m6 99 rfl) rfl
theorem q1400 : (Jvm.Cond.laysFinal "PaneKeepsWeatherModel" "PaneKeepsWeatherModel" "sums" "[I") ∈ lw_all := lw_g (lw_at lw_m6 100 rfl) rfl
theorem q1401 : (Jvm.Cond.soleField "PaneKeepsWeatherModel" "sums") ∈ lw_all := lw_g (lw_at lw_m6 101 rfl) rfl
theorem q1402 : (Jvm.Cond.laysFinal "PaneKeepsWeatherModel" "PaneKeepsWeatherModel" "prices" "[I") ∈ lw_all := lw_g (lw_at lw_m6 102 rfl) rfl
theorem q1403 : (Jvm.Cond.soleField "PaneKeepsWeatherModel" "prices") ∈ lw_all := lw_g (lw_at lw_m6 103 rfl) rfl
theorem q1404 : (Jvm.Cond.laysFinal "PaneKeepsWeatherModel" "PaneKeepsWeatherModel" "hates" "[Z") ∈ lw_all := lw_g (lw_at lw_m6 104 rfl) rfl
theorem q1405 : (Jvm.Cond.soleField "PaneKeepsWeatherModel" "hates") ∈ lw_all := lw_g (lw_at lw_m6 105 rfl) rfl
theorem q1406 : (Jvm.Cond.laysFinal "PaneKeepsWeatherModel" "PaneKeepsWeatherModel" "tried" "[I") ∈ lw_all := lw_g (lw_at lw_m6 106 rfl) rfl
theorem q1407 : (Jvm.Cond.soleField "PaneKeepsWeatherModel" "tried") ∈ lw_all := lw_g (lw_at lw_m6 107 rfl) rfl
theorem q1408 : (Jvm.Cond.lays "PaneKeepsWeatherModel" "PaneKeepsWeatherModel" "goal" "I") ∈ lw_all := lw_g (lw_at lw_m6 108 rfl) rfl
theorem q1409 : (Jvm.Cond.soleField "PaneKeepsWeatherModel" "goal") ∈ lw_all := lw_g (lw_at lw_m6 109 rfl) rfl
theorem q1410 : (Jvm.Cond.lays "PaneKeepsWeatherModel" "PaneKeepsWeatherModel" "isFound" "Z") ∈ lw_all := lw_g (lw_at lw_m6 110 rfl) rfl
theorem q1411 : (Jvm.Cond.soleField "PaneKeepsWeatherModel" "isFound") ∈ lw_all := lw_g (lw_at lw_m6 111 rfl) rfl
theorem q1412 : (Jvm.Cond.lays "PaneKeepsWeatherModel" "PaneKeepsWeatherModel" "bestDigits" "I") ∈ lw_all := lw_g (lw_at lw_m6 112 rfl) rfl
theorem q1413 : (Jvm.Cond.soleField "PaneKeepsWeatherModel" "bestDigits") ∈ lw_all := lw_g (lw_at lw_m6 113 rfl) rfl
theorem q1414 : (Jvm.Cond.lays "PaneKeepsWeatherModel" "PaneKeepsWeatherModel" "bestValue" "I") ∈ lw_all := lw_g (lw_at lw_m6 114 rfl) rfl
theorem q1415 : (Jvm.Cond.soleField "PaneKeepsWeatherModel" "bestValue") ∈ lw_all := lw_g (lw_at lw_m6 115 rfl) rfl
theorem q1416 : (Jvm.Cond.laysFinal "PaneKeepsWeatherModel" "PaneKeepsWeatherModel" "daysWas" "[I") ∈ lw_all := lw_g (lw_at lw_m6 116 rfl) rfl
theorem q1417 : (Jvm.Cond.soleField "PaneKeepsWeatherModel" "daysWas") ∈ lw_all := lw_g (lw_at lw_m6 117 rfl) rfl
theorem q1418 : (Jvm.Cond.laysFinal "PaneKeepsWeatherModel" "PaneKeepsWeatherModel" "rowsKept" "[I") ∈ lw_all := lw_g (lw_at lw_m6 118 rfl) rfl
theorem q1419 : (Jvm.Cond.soleField "PaneKeepsWeatherModel" "rowsKept") ∈ lw_all := lw_g (lw_at lw_m6 119 rfl) rfl
theorem q1420 : (Jvm.Cond.laysFinal "PaneKeepsWeatherModel" "PaneKeepsWeatherModel" "needsKept" "[I") ∈ lw_all := lw_g (lw_at lw_m6 120 rfl) rfl
theorem q1421 : (Jvm.Cond.soleField "PaneKeepsWeatherModel" "needsKept") ∈ lw_all := lw_g (lw_at lw_m6 121 rfl) rfl
theorem q1422 : (Jvm.Cond.laysFinal "PaneKeepsWeatherModel" "PaneKeepsWeatherModel" "thereKept" "[I") ∈ lw_all := lw_g (lw_at lw_m6 122 rfl) rfl
theorem q1423 : (Jvm.Cond.soleField "PaneKeepsWeatherModel" "thereKept") ∈ lw_all := lw_g (lw_at lw_m6 123 rfl) rfl
theorem q1424 : (Jvm.Cond.lays "PaneKeepsWeatherModel" "PaneKeepsWeatherModel" "manyKept" "I") ∈ lw_all := lw_g (lw_at lw_m6 124 rfl) rfl
theorem q1425 : (Jvm.Cond.soleField "PaneKeepsWeatherModel" "manyKept") ∈ lw_all := lw_g (lw_at lw_m6 125 rfl) rfl
theorem q1426 : (Jvm.Cond.lays "PaneKeepsWeatherModel" "PaneKeepsWeatherModel" "purseKept" "I") ∈ lw_all := lw_g (lw_at lw_m6 126 rfl) rfl
theorem q1427 : (Jvm.Cond.soleField "PaneKeepsWeatherModel" "purseKept") ∈ lw_all := lw_g (lw_at lw_m6 127 rfl) rfl
theorem q1428 : (Jvm.Cond.lays "PaneKeepsWeatherModel" "PaneKeepsWeatherModel" "brokenKept" "I") ∈ lw_all := lw_g (lw_at lw_m6 128 rfl) rfl
theorem q1429 : (Jvm.Cond.soleField "PaneKeepsWeatherModel" "brokenKept") ∈ lw_all := lw_g (lw_at lw_m6 129 rfl) rfl
theorem q1430 : (Jvm.Cond.lays "PaneKeepsWeatherModel" "PaneKeepsWeatherModel" "ruleKept" "I") ∈ lw_all := lw_g (lw_at lw_m6 130 rfl) rfl
theorem q1431 : (Jvm.Cond.soleField "PaneKeepsWeatherModel" "ruleKept") ∈ lw_all := lw_g (lw_at lw_m6 131 rfl) rfl
theorem q1432 : (Jvm.Cond.laysFinal "PaneKeepsWeatherModel" "PaneKeepsWeatherModel" "isThere" "[Z") ∈ lw_all := lw_g (lw_at lw_m6 132 rfl) rfl
theorem q1433 : (Jvm.Cond.soleField "PaneKeepsWeatherModel" "isThere") ∈ lw_all := lw_g (lw_at lw_m6 133 rfl) rfl
theorem q1434 : (Jvm.Cond.laysFinal "PaneKeepsWeatherModel" "PaneKeepsWeatherModel" "sorts" "[I") ∈ lw_all := lw_g (lw_at lw_m6 134 rfl) rfl
theorem q1435 : (Jvm.Cond.soleField "PaneKeepsWeatherModel" "sorts") ∈ lw_all := lw_g (lw_at lw_m6 135 rfl) rfl
theorem q1436 : (Jvm.Cond.laysFinal "PaneKeepsWeatherModel" "PaneKeepsWeatherModel" "sheetSize" "[I") ∈ lw_all := lw_g (lw_at lw_m6 136 rfl) rfl
theorem q1437 : (Jvm.Cond.soleField "PaneKeepsWeatherModel" "sheetSize") ∈ lw_all := lw_g (lw_at lw_m6 137 rfl) rfl
theorem q1438 : (Jvm.Cond.laysFinal "PaneKeepsWeatherModel" "PaneKeepsWeatherModel" "items" "[I") ∈ lw_all := lw_g (lw_at lw_m6 138 rfl) rfl
theorem q1439 : (Jvm.Cond.soleField "PaneKeepsWeatherModel" "items") ∈ lw_all := lw_g (lw_at lw_m6 139 rfl) rfl
theorem q1440 : (Jvm.Cond.superclass "PaneKeepsWeatherModel" "java/lang/Object") ∈ lw_all := lw_g (lw_at lw_m6 140 rfl) rfl
theorem q1442 : (Jvm.Cond.instanceMethod ({ cls := "PaneKeepsWeatherModel", name := "set", desc := "(III)I" } : Jvm.MethodName)) ∈ lw_all := lw_g (lw_at lw_m6 142 rfl) rfl
theorem q1443 : (Jvm.Cond.selects "PaneKeepsWeatherModel" ({ cls := "PaneKeepsWeatherModel", name := "set", desc := "(III)I" } : Jvm.MethodName) ({ cls := "PaneKeepsWeatherModel", name := "set", desc := "(III)I" } : Jvm.MethodName)) ∈ lw_all := lw_g (lw_at lw_m6 143 rfl) rfl
theorem q1444 : (Jvm.Cond.code ({ cls := "PaneKeepsWeatherModel", name := "set", desc := "(III)I" } : Jvm.MethodName) prog_16_method_10_code (5 : Nat) (Option.some Jvm.ClassFile.FieldType.int)) ∈ lw_all := lw_g (lw_at lw_m6 144 rfl) rfl
theorem q1445 : (Jvm.Cond.constantLong "PaneKeepsWeatherModel" (101 : Nat) (4 : Int64)) ∈ lw_all := lw_g (lw_at lw_m6 145 rfl) rfl
theorem q1446 : (Jvm.Cond.methodLink "PaneKeepsWeatherModel" (88 : Nat) ({ cls := "PaneKeepsWeatherModel", name := "in", desc := "(JJJ)Z" } : Jvm.MethodName)) ∈ lw_all := lw_g (lw_at lw_m6 146 rfl) rfl
theorem q1447 : (Jvm.Cond.static ({ cls := "PaneKeepsWeatherModel", name := "in", desc := "(JJJ)Z" } : Jvm.MethodName)) ∈ lw_all := lw_g (lw_at lw_m6 147 rfl) rfl
theorem q1448 : (Jvm.Cond.code ({ cls := "PaneKeepsWeatherModel", name := "in", desc := "(JJJ)Z" } : Jvm.MethodName) prog_16_method_2_code (6 : Nat) (Option.some Jvm.ClassFile.FieldType.boolean)) ∈ lw_all := lw_g (lw_at lw_m6 148 rfl) rfl
theorem q1449 : (Jvm.Cond.methodLink "PaneKeepsWeatherModel" (103 : Nat) ({ cls := "PaneKeepsWeatherModel", name := "isOf", desc := "(II)Z" } : Jvm.MethodName)) ∈ lw_all := lw_g (lw_at lw_m6 149 rfl) rfl
theorem q1450 : (Jvm.Cond.privateMethod ({ cls := "PaneKeepsWeatherModel", name := "isOf", desc := "(II)Z" } : Jvm.MethodName)) ∈ lw_tbl := lw_at lw_m6 150 rfl
theorem q1451 : (Jvm.Cond.instanceMethod ({ cls := "PaneKeepsWeatherModel", name := "isOf", desc := "(II)Z" } : Jvm.MethodName)) ∈ lw_all := lw_g (lw_at lw_m6 151 rfl) rfl
theorem q1452 : (Jvm.Cond.code ({ cls := "PaneKeepsWeatherModel", name := "isOf", desc := "(II)Z" } : Jvm.MethodName) prog_16_method_8_code (3 : Nat) (Option.some Jvm.ClassFile.FieldType.boolean)) ∈ lw_all := lw_g (lw_at lw_m6 152 rfl) rfl
theorem q1453 : (Jvm.Cond.methodLink "PaneKeepsWeatherModel" (94 : Nat) ({ cls := "PaneKeepsWeatherModel", name := "isOpening", desc := "(I)Z" } : Jvm.MethodName)) ∈ lw_all := lw_g (lw_at lw_m6 153 rfl) rfl
theorem q1454 : (Jvm.Cond.static ({ cls := "PaneKeepsWeatherModel", name := "isOpening", desc := "(I)Z" } : Jvm.MethodName)) ∈ lw_all := lw_g (lw_at lw_m6 154 rfl) rfl
theorem q1455 : (Jvm.Cond.code ({ cls := "PaneKeepsWeatherModel", name := "isOpening", desc := "(I)Z" } : Jvm.MethodName) prog_16_method_7_code (1 : Nat) (Option.some Jvm.ClassFile.FieldType.boolean)) ∈ lw_all := lw_g (lw_at lw_m6 155 rfl) rfl
theorem q1456 : (Jvm.Cond.constantLong "PaneKeepsWeatherModel" (92 : Nat) (3 : Int64)) ∈ lw_all := lw_g (lw_at lw_m6 156 rfl) rfl
theorem q1457 : (Jvm.Cond.methodLink "PaneKeepsWeatherModel" (98 : Nat) ({ cls := "PaneKeepsWeatherModel", name := "isPane", desc := "(I)Z" } : Jvm.MethodName)) ∈ lw_all := lw_g (lw_at lw_m6 157 rfl) rfl
theorem q1458 : (Jvm.Cond.privateMethod ({ cls := "PaneKeepsWeatherModel", name := "isPane", desc := "(I)Z" } : Jvm.MethodName)) ∈ lw_tbl := lw_at lw_m6 158 rfl
theorem q1459 : (Jvm.Cond.instanceMethod ({ cls := "PaneKeepsWeatherModel", name := "isPane", desc := "(I)Z" } : Jvm.MethodName)) ∈ lw_all := lw_g (lw_at lw_m6 159 rfl) rfl
theorem q1460 : (Jvm.Cond.code ({ cls := "PaneKeepsWeatherModel", name := "isPane", desc := "(I)Z" } : Jvm.MethodName) prog_16_method_6_code (2 : Nat) (Option.some Jvm.ClassFile.FieldType.boolean)) ∈ lw_all := lw_g (lw_at lw_m6 160 rfl) rfl
theorem q1461 : (Jvm.Cond.methodLink "PaneKeepsWeatherModel" (107 : Nat) ({ cls := "PaneKeepsWeatherModel", name := "mostOf", desc := "(I)I" } : Jvm.MethodName)) ∈ lw_all := lw_g (lw_at lw_m6 161 rfl) rfl
theorem q1462 : (Jvm.Cond.static ({ cls := "PaneKeepsWeatherModel", name := "mostOf", desc := "(I)I" } : Jvm.MethodName)) ∈ lw_all := lw_g (lw_at lw_m6 162 rfl) rfl
theorem q1463 : (Jvm.Cond.code ({ cls := "PaneKeepsWeatherModel", name := "mostOf", desc := "(I)I" } : Jvm.MethodName) prog_16_method_9_code (1 : Nat) (Option.some Jvm.ClassFile.FieldType.int)) ∈ lw_all := lw_g (lw_at lw_m6 163 rfl) rfl
theorem q1464 : (Jvm.Cond.methodLink "PaneKeepsWeatherModel" (111 : Nat) ({ cls := "PaneKeepsWeatherModel", name := "told", desc := "(II)I" } : Jvm.MethodName)) ∈ lw_all := lw_g (lw_at lw_m6 164 rfl) rfl
theorem q1465 : (Jvm.Cond.instanceMethod ({ cls := "PaneKeepsWeatherModel", name := "told", desc := "(II)I" } : Jvm.MethodName)) ∈ lw_all := lw_g (lw_at lw_m6 165 rfl) rfl
theorem q1466 : (Jvm.Cond.selects "PaneKeepsWeatherModel" ({ cls := "PaneKeepsWeatherModel", name := "told", desc := "(II)I" } : Jvm.MethodName) ({ cls := "PaneKeepsWeatherModel", name := "told", desc := "(II)I" } : Jvm.MethodName)) ∈ lw_all := lw_g (lw_at lw_m6 166 rfl) rfl
theorem q1467 : (Jvm.Cond.code ({ cls := "PaneKeepsWeatherModel", name := "told", desc := "(II)I" } : Jvm.MethodName) prog_16_method_17_code (3 : Nat) (Option.some Jvm.ClassFile.FieldType.int)) ∈ lw_all := lw_g (lw_at lw_m6 167 rfl) rfl
theorem q1468 : (Jvm.Cond.constantLong "PaneKeepsWeatherModel" (137 : Nat) (11 : Int64)) ∈ lw_all := lw_g (lw_at lw_m6 168 rfl) rfl
theorem q1469 : (Jvm.Cond.methodLink "PaneKeepsWeatherModel" (139 : Nat) ({ cls := "PaneKeepsWeatherModel", name := "sumIn", desc := "(I)I" } : Jvm.MethodName)) ∈ lw_all := lw_g (lw_at lw_m6 169 rfl) rfl
theorem q1470 : (Jvm.Cond.privateMethod ({ cls := "PaneKeepsWeatherModel", name := "sumIn", desc := "(I)I" } : Jvm.MethodName)) ∈ lw_tbl := lw_at lw_m6 170 rfl
theorem q1471 : (Jvm.Cond.instanceMethod ({ cls := "PaneKeepsWeatherModel", name := "sumIn", desc := "(I)I" } : Jvm.MethodName)) ∈ lw_all := lw_g (lw_at lw_m6 171 rfl) rfl
theorem q1472 : (Jvm.Cond.code ({ cls := "PaneKeepsWeatherModel", name := "sumIn", desc := "(I)I" } : Jvm.MethodName) prog_16_method_44_code (3 : Nat) (Option.some Jvm.ClassFile.FieldType.int)) ∈ lw_all := lw_g (lw_at lw_m6 172 rfl) rfl
theorem q1473 : (Jvm.Cond.methodLink "PaneKeepsWeatherModel" (131 : Nat) ({ cls := "PaneKeepsWeatherModel", name := "isBroken", desc := "(I)Z" } : Jvm.MethodName)) ∈ lw_all := lw_g (lw_at lw_m6 173 rfl) rfl
theorem q1474 : (Jvm.Cond.privateMethod ({ cls := "PaneKeepsWeatherModel", name := "isBroken", desc := "(I)Z" } : Jvm.MethodName)) ∈ lw_tbl := lw_at lw_m6 174 rfl
theorem q1475 : (Jvm.Cond.instanceMethod ({ cls := "PaneKeepsWeatherModel", name := "isBroken", desc := "(I)Z" } : Jvm.MethodName)) ∈ lw_all := lw_g (lw_at lw_m6 175 rfl) rfl
theorem q1476 : (Jvm.Cond.code ({ cls := "PaneKeepsWeatherModel", name := "isBroken", desc := "(I)Z" } : Jvm.MethodName) prog_16_method_13_code (2 : Nat) (Option.some Jvm.ClassFile.FieldType.boolean)) ∈ lw_all := lw_g (lw_at lw_m6 176 rfl) rfl
theorem q1477 : (Jvm.Cond.methodLink "PaneKeepsWeatherModel" (282 : Nat) ({ cls := "PaneKeepsWeatherModel", name := "sumOf", desc := "(II)I" } : Jvm.MethodName)) ∈ lw_all := lw_g (lw_at lw_m6 177 rfl) rfl
theorem q1478 : (Jvm.Cond.privateMethod ({ cls := "PaneKeepsWeatherModel", name := "sumOf", desc := "(II)I" } : Jvm.MethodName)) ∈ lw_tbl := lw_at lw_m6 178 rfl
theorem q1479 : (Jvm.Cond.instanceMethod ({ cls := "PaneKeepsWeatherModel", name := "sumOf", desc := "(II)I" } : Jvm.MethodName)) ∈ lw_all := lw_g (lw_at lw_m6 179 rfl) rfl
theorem q1480 : (Jvm.Cond.code ({ cls := "PaneKeepsWeatherModel", name := "sumOf", desc := "(II)I" } : Jvm.MethodName) prog_16_method_43_code (5 : Nat) (Option.some Jvm.ClassFile.FieldType.int)) ∈ lw_all := lw_g (lw_at lw_m6 180 rfl) rfl
theorem q1481 : (Jvm.Cond.methodLink "PaneKeepsWeatherModel" (279 : Nat) ({ cls := "PaneKeepsWeatherModel", name := "lightOf", desc := "(III)I" } : Jvm.MethodName)) ∈ lw_all := lw_g (lw_at lw_m6 181 rfl) rfl
theorem q1482 : (Jvm.Cond.privateMethod ({ cls := "PaneKeepsWeatherModel", name := "lightOf", desc := "(III)I" } : Jvm.MethodName)) ∈ lw_tbl := lw_at lw_m6 182 rfl
theorem q1483 : (Jvm.Cond.instanceMethod ({ cls := "PaneKeepsWeatherModel", name := "lightOf", desc := "(III)I" } : Jvm.MethodName)) ∈ lw_all := lw_g (lw_at lw_m6 183 rfl) rfl
theorem q1484 : (Jvm.Cond.code ({ cls := "PaneKeepsWeatherModel", name := "lightOf", desc := "(III)I" } : Jvm.MethodName) prog_16_method_38_code (9 : Nat) (Option.some Jvm.ClassFile.FieldType.int)) ∈ lw_all := lw_g (lw_at lw_m6 184 rfl) rfl
theorem q1485 : (Jvm.Cond.methodLink "PaneKeepsWeatherModel" (273 : Nat) ({ cls := "PaneKeepsWeatherModel", name := "asks", desc := "(IIIII)I" } : Jvm.MethodName)) ∈ lw_all := lw_g (lw_at lw_m6 185 rfl) rfl
theorem q1486 : (Jvm.Cond.privateMethod ({ cls := "PaneKeepsWeatherModel", name := "asks", desc := "(IIIII)I" } : Jvm.MethodName)) ∈ lw_tbl := lw_at lw_m6 186 rfl
theorem q1487 : (Jvm.Cond.instanceMethod ({ cls := "PaneKeepsWeatherModel", name := "asks", desc := "(IIIII)I" } : Jvm.MethodName)) ∈ lw_all := lw_g (lw_at lw_m6 187 rfl) rfl
theorem q1488 : (Jvm.Cond.code ({ cls := "PaneKeepsWeatherModel", name := "asks", desc := "(IIIII)I" } : Jvm.MethodName) prog_16_method_37_code (7 : Nat) (Option.some Jvm.ClassFile.FieldType.int)) ∈ lw_all := lw_g (lw_at lw_m6 188 rfl) rfl
theorem q1489 : (Jvm.Cond.methodLink "PaneKeepsWeatherModel" (266 : Nat) ({ cls := "PaneKeepsWeatherModel", name := "read", desc := "(II)I" } : Jvm.MethodName)) ∈ lw_all := lw_g (lw_at lw_m6 189 rfl) rfl
theorem q1490 : (Jvm.Cond.privateMethod ({ cls := "PaneKeepsWeatherModel", name := "read", desc := "(II)I" } : Jvm.MethodName)) ∈ lw_tbl := lw_at lw_m6 190 rfl
theorem q1491 : (Jvm.Cond.instanceMethod ({ cls := "PaneKeepsWeatherModel", name := "read", desc := "(II)I" } : Jvm.MethodName)) ∈ lw_all := lw_g (lw_at lw_m6 191 rfl) rfl
theorem q1492 : (Jvm.Cond.code ({ cls := "PaneKeepsWeatherModel", name := "read", desc := "(II)I" } : Jvm.MethodName) prog_16_method_34_code (6 : Nat) (Option.some Jvm.ClassFile.FieldType.int)) ∈ lw_all := lw_g (lw_at lw_m6 192 rfl) rfl
theorem q1493 : (Jvm.Cond.methodLink "PaneKeepsWeatherModel" (204 : Nat) ({ cls := "PaneKeepsWeatherModel", name := "next", desc := "()V" } : Jvm.MethodName)) ∈ lw_all := lw_g (lw_at lw_m6 193 rfl) rfl
theorem q1494 : (Jvm.Cond.privateMethod ({ cls := "PaneKeepsWeatherModel", name := "next", desc := "()V" } : Jvm.MethodName)) ∈ lw_tbl := lw_at lw_m6 194 rfl
theorem q1495 : (Jvm.Cond.instanceMethod ({ cls := "PaneKeepsWeatherModel", name := "next", desc := "()V" } : Jvm.MethodName)) ∈ lw_all := lw_g (lw_at lw_m6 195 rfl) rfl
theorem q1496 : (Jvm.Cond.code ({ cls := "PaneKeepsWeatherModel", name := "next", desc := "()V" } : Jvm.MethodName) prog_16_method_20_code (3 : Nat) (Option.none : Option Jvm.ClassFile.FieldType)) ∈ lw_all := lw_g (lw_at lw_m6 196 rfl) rfl
theorem q1497 : (Jvm.Cond.methodLink "PaneKeepsWeatherModel" (165 : Nat) ({ cls := "PaneKeepsWeatherModel", name := "byteAt", desc := "(I)I" } : Jvm.MethodName)) ∈ lw_all := lw_g (lw_at lw_m6 197 rfl) rfl
theorem q1498 : (Jvm.Cond.privateMethod ({ cls := "PaneKeepsWeatherModel", name := "byteAt", desc := "(I)I" } : Jvm.MethodName)) ∈ lw_tbl := lw_at lw_m6 198 rfl
theorem q1499 : (Jvm.Cond.instanceMethod ({ cls := "PaneKeepsWeatherModel", name := "byteAt", desc := "(I)I" } : Jvm.MethodName)) ∈ lw_all := lw_g (lw_at lw_m6 199 rfl) rfl
theorem q1500 : (Jvm.Cond.code ({ cls := "PaneKeepsWeatherModel", name := "byteAt", desc := "(I)I" } : Jvm.MethodName) prog_16_method_19_code (2 : Nat) (Option.some Jvm.ClassFile.FieldType.int)) ∈ lw_all := lw_g (lw_at lw_m6 200 rfl) rfl
theorem q1501 : (Jvm.Cond.constantLong "PaneKeepsWeatherModel" (174 : Nat) (97 : Int64)) ∈ lw_all := lw_g (lw_at lw_m6 201 rfl) rfl
theorem q1502 : (Jvm.Cond.constantLong "PaneKeepsWeatherModel" (176 : Nat) (122 : Int64)) ∈ lw_all := lw_g (lw_at lw_m6 202 rfl) rfl
theorem q1503 : (Jvm.Cond.constantLong "PaneKeepsWeatherModel" (178 : Nat) (48 : Int64)) ∈ lw_all := lw_g (lw_at lw_m6 203 rfl) rfl
theorem q1504 : (Jvm.Cond.constantLong "PaneKeepsWeatherModel" (180 : Nat) (57 : Int64)) ∈ lw_all := lw_g (lw_at lw_m6 204 rfl) rfl
theorem q1505 : (Jvm.Cond.constantLong "PaneKeepsWeatherModel" (186 : Nat) (10 : Int64)) ∈ lw_all := lw_g (lw_at lw_m6 205 rfl) rfl
theorem q1506 : (Jvm.Cond.methodLink "PaneKeepsWeatherModel" (207 : Nat) ({ cls := "PaneKeepsWeatherModel", name := "isWord", desc := "(IIIIIIII)Z" } : Jvm.MethodName)) ∈ lw_all := lw_g (lw_at lw_m6 206 rfl) rfl
theorem q1507 : (Jvm.Cond.privateMethod ({ cls := "PaneKeepsWeatherModel", name := "isWord", desc := "(IIIIIIII)Z" } : Jvm.MethodName)) ∈ lw_tbl := lw_at lw_m6 207 rfl
theorem q1508 : (Jvm.Cond.instanceMethod ({ cls := "PaneKeepsWeatherModel", name := "isWord", desc := "(IIIIIIII)Z" } : Jvm.MethodName)) ∈ lw_all := lw_g (lw_at lw_m6 208 rfl) rfl
theorem q1509 : (Jvm.Cond.code ({ cls := "PaneKeepsWeatherModel", name := "isWord", desc := "(IIIIIIII)Z" } : Jvm.MethodName) prog_16_method_23_code (9 : Nat) (Option.some Jvm.ClassFile.FieldType.boolean)) ∈ lw_all := lw_g (lw_at lw_m6 209 rfl) rfl
theorem q1510 : (Jvm.Cond.methodLink "PaneKeepsWeatherModel" (195 : Nat) ({ cls := "PaneKeepsWeatherModel", name := "isLetter", desc := "(II)Z" } : Jvm.MethodName)) ∈ lw_all := lw_g (lw_at lw_m6 210 rfl) rfl
theorem q1511 : (Jvm.Cond.privateMethod ({ cls := "PaneKeepsWeatherModel", name := "isLetter", desc := "(II)Z" } : Jvm.MethodName)) ∈ lw_tbl := lw_at lw_m6 211 rfl
theorem q1512 : (Jvm.Cond.instanceMethod ({ cls := "PaneKeepsWeatherModel", name := "isLetter", desc := "(II)Z" } : Jvm.MethodName)) ∈ lw_all := lw_g (lw_at lw_m6 212 rfl) rfl
theorem q1513 : (Jvm.Cond.code ({ cls := "PaneKeepsWeatherModel", name := "isLetter", desc := "(II)Z" } : Jvm.MethodName) prog_16_method_22_code (3 : Nat) (Option.some Jvm.ClassFile.FieldType.boolean)) ∈ lw_all := lw_g (lw_at lw_m6 213 rfl) rfl
theorem q1514 : (Jvm.Cond.methodLink "PaneKeepsWeatherModel" (262 : Nat) ({ cls := "PaneKeepsWeatherModel", name := "part", desc := "(Z)I" } : Jvm.MethodName)) ∈ lw_all := lw_g (lw_at lw_m6 214 rfl) rfl
theorem q1515 : (Jvm.Cond.privateMethod ({ cls := "PaneKeepsWeatherModel", name := "part", desc := "(Z)I" } : Jvm.MethodName)) ∈ lw_tbl := lw_at lw_m6 215 rfl
theorem q1516 : (Jvm.Cond.instanceMethod ({ cls := "PaneKeepsWeatherModel", name := "part", desc := "(Z)I" } : Jvm.MethodName)) ∈ lw_all := lw_g (lw_at lw_m6 216 rfl) rfl
theorem q1517 : (Jvm.Cond.code ({ cls := "PaneKeepsWeatherModel", name := "part", desc := "(Z)I" } : Jvm.MethodName) prog_16_method_33_code (3 : Nat) (Option.some Jvm.ClassFile.FieldType.int)) ∈ lw_all := lw_g (lw_at lw_m6 217 rfl) rfl
theorem q1518 : (Jvm.Cond.methodLink "PaneKeepsWeatherModel" (201 : Nat) ({ cls := "PaneKeepsWeatherModel", name := "fail", desc := "()V" } : Jvm.MethodName)) ∈ lw_all := lw_g (lw_at lw_m6 218 rfl) rfl
theorem q1519 : (Jvm.Cond.privateMethod ({ cls := "PaneKeepsWeatherModel", name := "fail", desc := "()V" } : Jvm.MethodName)) ∈ lw_tbl := lw_at lw_m6 219 rfl
theorem q1520 : (Jvm.Cond.instanceMethod ({ cls := "PaneKeepsWeatherModel", name := "fail", desc := "()V" } : Jvm.MethodName)) ∈ lw_all := lw_g (lw_at lw_m6 220 rfl) rfl
theorem q1521 : (Jvm.Cond.code ({ cls := "PaneKeepsWeatherModel", name := "fail", desc := "()V" } : Jvm.MethodName) prog_16_method_21_code (1 : Nat) (Option.none : Option Jvm.ClassFile.FieldType)) ∈ lw_all := lw_g (lw_at lw_m6 221 rfl) rfl
theorem q1522 : (Jvm.Cond.methodLink "PaneKeepsWeatherModel" (240 : Nat) ({ cls := "PaneKeepsWeatherModel", name := "either", desc := "()I" } : Jvm.MethodName)) ∈ lw_all := lw_g (lw_at lw_m6 222 rfl) rfl
theorem q1523 : (Jvm.Cond.privateMethod ({ cls := "PaneKeepsWeatherModel", name := "either", desc := "()I" } : Jvm.MethodName)) ∈ lw_tbl := lw_at lw_m6 223 rfl
theorem q1524 : (Jvm.Cond.instanceMethod ({ cls := "PaneKeepsWeatherModel", name := "either", desc := "()I" } : Jvm.MethodName)) ∈ lw_all := lw_g (lw_at lw_m6 224 rfl) rfl
theorem q1525 : (Jvm.Cond.code ({ cls := "PaneKeepsWeatherModel", name := "either", desc := "()I" } : Jvm.MethodName) prog_16_method_32_code (3 : Nat) (Option.some Jvm.ClassFile.FieldType.int)) ∈ lw_all := lw_g (lw_at lw_m6 225 rfl) rfl
theorem q1526 : (Jvm.Cond.methodLink "PaneKeepsWeatherModel" (259 : Nat) ({ cls := "PaneKeepsWeatherModel", name := "both", desc := "()I" } : Jvm.MethodName)) ∈ lw_all := lw_g (lw_at lw_m6 226 rfl) rfl
theorem q1527 : (Jvm.Cond.privateMethod ({ cls := "PaneKeepsWeatherModel", name := "both", desc := "()I" } : Jvm.MethodName)) ∈ lw_tbl := lw_at lw_m6 227 rfl
theorem q1528 : (Jvm.Cond.instanceMethod ({ cls := "PaneKeepsWeatherModel", name := "both", desc := "()I" } : Jvm.MethodName)) ∈ lw_all := lw_g (lw_at lw_m6 228 rfl) rfl
theorem q1529 : (Jvm.Cond.code ({ cls := "PaneKeepsWeatherModel", name := "both", desc := "()I" } : Jvm.MethodName) prog_16_method_31_code (3 : Nat) (Option.some Jvm.ClassFile.FieldType.int)) ∈ lw_all := lw_g (lw_at lw_m6 229 rfl) rfl
theorem q1530 : (Jvm.Cond.methodLink "PaneKeepsWeatherModel" (251 : Nat) ({ cls := "PaneKeepsWeatherModel", name := "not", desc := "()I" } : Jvm.MethodName)) ∈ lw_all := lw_g (lw_at lw_m6 230 rfl) rfl
theorem q1531 : (Jvm.Cond.privateMethod ({ cls := "PaneKeepsWeatherModel", name := "not", desc := "()I" } : Jvm.MethodName)) ∈ lw_tbl := lw_at lw_m6 231 rfl
theorem q1532 : (Jvm.Cond.instanceMethod ({ cls := "PaneKeepsWeatherModel", name := "not", desc := "()I" } : Jvm.MethodName)) ∈ lw_all := lw_g (lw_at lw_m6 232 rfl) rfl
theorem q1533 : (Jvm.Cond.code ({ cls := "PaneKeepsWeatherModel", name := "not", desc := "()I" } : Jvm.MethodName) prog_16_method_30_code (4 : Nat) (Option.some Jvm.ClassFile.FieldType.int)) ∈ lw_all := lw_g (lw_at lw_m6 233 rfl) rfl
theorem q1534 : (Jvm.Cond.methodLink "PaneKeepsWeatherModel" (232 : Nat) ({ cls := "PaneKeepsWeatherModel", name := "opens", desc := "()Z" } : Jvm.MethodName)) ∈ lw_all := lw_g (lw_at lw_m6 234 rfl) rfl
theorem q1535 : (Jvm.Cond.privateMethod ({ cls := "PaneKeepsWeatherModel", name := "opens", desc := "()Z" } : Jvm.MethodName)) ∈ lw_tbl := lw_at lw_m6 235 rfl
theorem q1536 : (Jvm.Cond.instanceMethod ({ cls := "PaneKeepsWeatherModel", name := "opens", desc := "()Z" } : Jvm.MethodName)) ∈ lw_all := lw_g (lw_at lw_m6 236 rfl) rfl
theorem q1537 : (Jvm.Cond.code ({ cls := "PaneKeepsWeatherModel", name := "opens", desc := "()Z" } : Jvm.MethodName) prog_16_method_25_code (1 : Nat) (Option.some Jvm.ClassFile.FieldType.boolean)) ∈ lw_all := lw_g (lw_at lw_m6 237 rfl) rfl
theorem q1538 : (Jvm.Cond.methodLink "PaneKeepsWeatherModel" (254 : Nat) ({ cls := "PaneKeepsWeatherModel", name := "added", desc := "()I" } : Jvm.MethodName)) ∈ lw_all := lw_g (lw_at lw_m6 238 rfl) rfl
theorem q1539 : (Jvm.Cond.privateMethod ({ cls := "PaneKeepsWeatherModel", name := "added", desc := "()I" } : Jvm.MethodName)) ∈ lw_tbl := lw_at lw_m6 239 rfl
theorem q1540 : (Jvm.Cond.instanceMethod ({ cls := "PaneKeepsWeatherModel", name := "added", desc := "()I" } : Jvm.MethodName)) ∈ lw_all := lw_g (lw_at lw_m7 0 rfl) rfl
theorem q1541 : (Jvm.Cond.code ({ cls := "PaneKeepsWeatherModel", name := "added", desc := "()I" } : Jvm.MethodName) prog_16_method_29_code (4 : Nat) (Option.some Jvm.ClassFile.FieldType.int)) ∈ lw_all := lw_g (lw_at lw_m7 1 rfl) rfl
theorem q1542 : (Jvm.Cond.methodLink "PaneKeepsWeatherModel" (246 : Nat) ({ cls := "PaneKeepsWeatherModel", name := "term", desc := "()I" } : Jvm.MethodName)) ∈ lw_all := lw_g (lw_at lw_m7 2 rfl) rfl
theorem q1543 : (Jvm.Cond.privateMethod ({ cls := "PaneKeepsWeatherModel", name := "term", desc := "()I" } : Jvm.MethodName)) ∈ lw_tbl := lw_at lw_m7 3 rfl
theorem q1544 : (Jvm.Cond.instanceMethod ({ cls := "PaneKeepsWeatherModel", name := "term", desc := "()I" } : Jvm.MethodName)) ∈ lw_all := lw_g (lw_at lw_m7 4 rfl) rfl
theorem q1545 : (Jvm.Cond.code ({ cls := "PaneKeepsWeatherModel", name := "term", desc := "()I" } : Jvm.MethodName) prog_16_method_28_code (2 : Nat) (Option.some Jvm.ClassFile.FieldType.int)) ∈ lw_all := lw_g (lw_at lw_m7 5 rfl) rfl
theorem q1546 : (Jvm.Cond.methodLink "PaneKeepsWeatherModel" (236 : Nat) ({ cls := "PaneKeepsWeatherModel", name := "atom", desc := "()I" } : Jvm.MethodName)) ∈ lw_all := lw_g (lw_at lw_m7 6 rfl) rfl
theorem q1547 : (Jvm.Cond.privateMethod ({ cls := "PaneKeepsWeatherModel", name := "atom", desc := "()I" } : Jvm.MethodName)) ∈ lw_tbl := lw_at lw_m7 7 rfl
theorem q1548 : (Jvm.Cond.instanceMethod ({ cls := "PaneKeepsWeatherModel", name := "atom", desc := "()I" } : Jvm.MethodName)) ∈ lw_all := lw_g (lw_at lw_m7 8 rfl) rfl
theorem q1549 : (Jvm.Cond.code ({ cls := "PaneKeepsWeatherModel", name := "atom", desc := "()I" } : Jvm.MethodName) prog_16_method_27_code (2 : Nat) (Option.some Jvm.ClassFile.FieldType.int)) ∈ lw_all := lw_g (lw_at lw_m7 9 rfl) rfl
theorem q1550 : (Jvm.Cond.methodLink "PaneKeepsWeatherModel" (229 : Nat) ({ cls := "PaneKeepsWeatherModel", name := "isSign", desc := "(I)Z" } : Jvm.MethodName)) ∈ lw_all := lw_g (lw_at lw_m7 10 rfl) rfl
theorem q1551 : (Jvm.Cond.privateMethod ({ cls := "PaneKeepsWeatherModel", name := "isSign", desc := "(I)Z" } : Jvm.MethodName)) ∈ lw_tbl := lw_at lw_m7 11 rfl
theorem q1552 : (Jvm.Cond.instanceMethod ({ cls := "PaneKeepsWeatherModel", name := "isSign", desc := "(I)Z" } : Jvm.MethodName)) ∈ lw_all := lw_g (lw_at lw_m7 12 rfl) rfl
theorem q1553 : (Jvm.Cond.code ({ cls := "PaneKeepsWeatherModel", name := "isSign", desc := "(I)Z" } : Jvm.MethodName) prog_16_method_24_code (2 : Nat) (Option.some Jvm.ClassFile.FieldType.boolean)) ∈ lw_all := lw_g (lw_at lw_m7 13 rfl) rfl
theorem q1554 : (Jvm.Cond.methodLink "PaneKeepsWeatherModel" (243 : Nat) ({ cls := "PaneKeepsWeatherModel", name := "name", desc := "()I" } : Jvm.MethodName)) ∈ lw_all := lw_g (lw_at lw_m7 14 rfl) rfl
theorem q1555 : (Jvm.Cond.privateMethod ({ cls := "PaneKeepsWeatherModel", name := "name", desc := "()I" } : Jvm.MethodName)) ∈ lw_tbl := lw_at lw_m7 15 rfl
theorem q1556 : (Jvm.Cond.instanceMethod ({ cls := "PaneKeepsWeatherModel", name := "name", desc := "()I" } : Jvm.MethodName)) ∈ lw_all := lw_g (lw_at lw_m7 16 rfl) rfl
theorem q1557 : (Jvm.Cond.code ({ cls := "PaneKeepsWeatherModel", name := "name", desc := "()I" } : Jvm.MethodName) prog_16_method_26_code (1 : Nat) (Option.some Jvm.ClassFile.FieldType.int)) ∈ lw_all := lw_g (lw_at lw_m7 17 rfl) rfl
theorem q1558 : (Jvm.Cond.constantLong "PaneKeepsWeatherModel" (249 : Nat) (43 : Int64)) ∈ lw_all := lw_g (lw_at lw_m7 18 rfl) rfl
theorem q1559 : (Jvm.Cond.constantLong "PaneKeepsWeatherModel" (257 : Nat) (60 : Int64)) ∈ lw_all := lw_g (lw_at lw_m7 19 rfl) rfl
theorem q1560 : (Jvm.Cond.methodLink "PaneKeepsWeatherModel" (269 : Nat) ({ cls := "PaneKeepsWeatherModel", name := "within", desc := "(III)I" } : Jvm.MethodName)) ∈ lw_all := lw_g (lw_at lw_m7 20 rfl) rfl
theorem q1561 : (Jvm.Cond.static ({ cls := "PaneKeepsWeatherModel", name := "within", desc := "(III)I" } : Jvm.MethodName)) ∈ lw_all := lw_g (lw_at lw_m7 21 rfl) rfl
theorem q1562 : (Jvm.Cond.code ({ cls := "PaneKeepsWeatherModel", name := "within", desc := "(III)I" } : Jvm.MethodName) prog_16_method_3_code (3 : Nat) (Option.some Jvm.ClassFile.FieldType.int)) ∈ lw_all := lw_g (lw_at lw_m7 22 rfl) rfl
theorem q1563 : (Jvm.Cond.constantLong "PaneKeepsWeatherModel" (122 : Nat) (5 : Int64)) ∈ lw_all := lw_g (lw_at lw_m7 23 rfl) rfl
theorem q1564 : (Jvm.Cond.methodLink "PaneKeepsWeatherModel" (142 : Nat) ({ cls := "PaneKeepsWeatherModel", name := "whereIs", desc := "(I)I" } : Jvm.MethodName)) ∈ lw_all := lw_g (lw_at lw_m7 24 rfl) rfl
theorem q1565 : (Jvm.Cond.privateMethod ({ cls := "PaneKeepsWeatherModel", name := "whereIs", desc := "(I)I" } : Jvm.MethodName)) ∈ lw_tbl := lw_at lw_m7 25 rfl
theorem q1566 : (Jvm.Cond.instanceMethod ({ cls := "PaneKeepsWeatherModel", name := "whereIs", desc := "(I)I" } : Jvm.MethodName)) ∈ lw_all := lw_g (lw_at lw_m7 26 rfl) rfl
theorem q1567 : (Jvm.Cond.code ({ cls := "PaneKeepsWeatherModel", name := "whereIs", desc := "(I)I" } : Jvm.MethodName) prog_16_method_14_code (3 : Nat) (Option.some Jvm.ClassFile.FieldType.int)) ∈ lw_all := lw_g (lw_at lw_m7 27 rfl) rfl
theorem q1568 : (Jvm.Cond.methodLink "PaneKeepsWeatherModel" (145 : Nat) ({ cls := "PaneKeepsWeatherModel", name := "costsOf", desc := "(I)I" } : Jvm.MethodName)) ∈ lw_all := lw_g (lw_at lw_m7 28 rfl) rfl
theorem q1569 : (Jvm.Cond.privateMethod ({ cls := "PaneKeepsWeatherModel", name := "costsOf", desc := "(I)I" } : Jvm.MethodName)) ∈ lw_tbl := lw_at lw_m7 29 rfl
theorem q1570 : (Jvm.Cond.instanceMethod ({ cls := "PaneKeepsWeatherModel", name := "costsOf", desc := "(I)I" } : Jvm.MethodName)) ∈ lw_all := lw_g (lw_at lw_m7 30 rfl) rfl
theorem q1571 : (Jvm.Cond.code ({ cls := "PaneKeepsWeatherModel", name := "costsOf", desc := "(I)I" } : Jvm.MethodName) prog_16_method_39_code (6 : Nat) (Option.some Jvm.ClassFile.FieldType.int)) ∈ lw_all := lw_g (lw_at lw_m7 31 rfl) rfl
theorem q1572 : (Jvm.Cond.methodLink "PaneKeepsWeatherModel" (148 : Nat) ({ cls := "PaneKeepsWeatherModel", name := "spillsOf", desc := "(I)I" } : Jvm.MethodName)) ∈ lw_all := lw_g (lw_at lw_m7 32 rfl) rfl
theorem q1573 : (Jvm.Cond.privateMethod ({ cls := "PaneKeepsWeatherModel", name := "spillsOf", desc := "(I)I" } : Jvm.MethodName)) ∈ lw_tbl := lw_at lw_m7 33 rfl
theorem q1574 : (Jvm.Cond.instanceMethod ({ cls := "PaneKeepsWeatherModel", name := "spillsOf", desc := "(I)I" } : Jvm.MethodName)) ∈ lw_all := lw_g (lw_at lw_m7 34 rfl) rfl
theorem q1575 : (Jvm.Cond.code ({ cls := "PaneKeepsWeatherModel", name := "spillsOf", desc := "(I)I" } : Jvm.MethodName) prog_16_method_40_code (4 : Nat) (Option.some Jvm.ClassFile.FieldType.int)) ∈ lw_all := lw_g (lw_at lw_m7 35 rfl) rfl
theorem q1576 : (Jvm.Cond.methodLink "PaneKeepsWeatherModel" (115 : Nat) ({ cls := "PaneKeepsWeatherModel", name := "lays", desc := "(III)V" } : Jvm.MethodName)) ∈ lw_all := lw_g (lw_at lw_m7 36 rfl) rfl
theorem q1577 : (Jvm.Cond.privateMethod ({ cls := "PaneKeepsWeatherModel", name := "lays", desc := "(III)V" } : Jvm.MethodName)) ∈ lw_tbl := lw_at lw_m7 37 rfl
theorem q1578 : (Jvm.Cond.instanceMethod ({ cls := "PaneKeepsWeatherModel", name := "lays", desc := "(III)V" } : Jvm.MethodName)) ∈ lw_all := lw_g (lw_at lw_m7 38 rfl) rfl
theorem q1579 : (Jvm.Cond.code ({ cls := "PaneKeepsWeatherModel", name := "lays", desc := "(III)V" } : Jvm.MethodName) prog_16_method_11_code (4 : Nat) (Option.none : Option Jvm.ClassFile.FieldType)) ∈ lw_all := lw_g (lw_at lw_m7 39 rfl) rfl
theorem q1581 : (Jvm.Cond.instanceMethod ({ cls := "PaneKeepsWeatherModel", name := "pane", desc := "(III)I" } : Jvm.MethodName)) ∈ lw_all := lw_g (lw_at lw_m7 41 rfl) rfl
theorem q1582 : (Jvm.Cond.selects "PaneKeepsWeatherModel" ({ cls := "PaneKeepsWeatherModel", name := "pane", desc := "(III)I" } : Jvm.MethodName) ({ cls := "PaneKeepsWeatherModel", name := "pane", desc := "(III)I" } : Jvm.MethodName)) ∈ lw_all := lw_g (lw_at lw_m7 42 rfl) rfl
theorem q1583 : (Jvm.Cond.code ({ cls := "PaneKeepsWeatherModel", name := "pane", desc := "(III)I" } : Jvm.MethodName) prog_16_method_12_code (4 : Nat) (Option.some Jvm.ClassFile.FieldType.int)) ∈ lw_all := lw_g (lw_at lw_m7 43 rfl) rfl
theorem q1584 : (Jvm.Cond.constantLong "PaneKeepsWeatherModel" (124 : Nat) (9 : Int64)) ∈ lw_all := lw_g (lw_at lw_m7 44 rfl) rfl
theorem q1585 : (Jvm.Cond.constantLong "PaneKeepsWeatherModel" (126 : Nat) (364 : Int64)) ∈ lw_all := lw_g (lw_at lw_m7 45 rfl) rfl
theorem q1587 : (Jvm.Cond.instanceMethod ({ cls := "PaneKeepsWeatherModel", name := "glaze", desc := "(II)I" } : Jvm.MethodName)) ∈ lw_all := lw_g (lw_at lw_m7 47 rfl) rfl
theorem q1588 : (Jvm.Cond.selects "PaneKeepsWeatherModel" ({ cls := "PaneKeepsWeatherModel", name := "glaze", desc := "(II)I" } : Jvm.MethodName) ({ cls := "PaneKeepsWeatherModel", name := "glaze", desc := "(II)I" } : Jvm.MethodName)) ∈ lw_all := lw_g (lw_at lw_m7 48 rfl) rfl
theorem q1589 : (Jvm.Cond.code ({ cls := "PaneKeepsWeatherModel", name := "glaze", desc := "(II)I" } : Jvm.MethodName) prog_16_method_15_code (5 : Nat) (Option.some Jvm.ClassFile.FieldType.int)) ∈ lw_all := lw_g (lw_at lw_m7 49 rfl) rfl
theorem q1591 : (Jvm.Cond.instanceMethod ({ cls := "PaneKeepsWeatherModel", name := "stone", desc := "(I)I" } : Jvm.MethodName)) ∈ lw_all := lw_g (lw_at lw_m7 51 rfl) rfl
theorem q1592 : (Jvm.Cond.selects "PaneKeepsWeatherModel" ({ cls := "PaneKeepsWeatherModel", name := "stone", desc := "(I)I" } : Jvm.MethodName) ({ cls := "PaneKeepsWeatherModel", name := "stone", desc := "(I)I" } : Jvm.MethodName)) ∈ lw_all := lw_g (lw_at lw_m7 52 rfl) rfl
theorem q1593 : (Jvm.Cond.code ({ cls := "PaneKeepsWeatherModel", name := "stone", desc := "(I)I" } : Jvm.MethodName) prog_16_method_16_code (3 : Nat) (Option.some Jvm.ClassFile.FieldType.int)) ∈ lw_all := lw_g (lw_at lw_m7 53 rfl) rfl
theorem q1594 : (Jvm.Cond.methodLink "PaneKeepsWeatherModel" (134 : Nat) ({ cls := "PaneKeepsWeatherModel", name := "spiltFrom", desc := "(I)I" } : Jvm.MethodName)) ∈ lw_all := lw_g (lw_at lw_m7 54 rfl) rfl
theorem q1595 : (Jvm.Cond.privateMethod ({ cls := "PaneKeepsWeatherModel", name := "spiltFrom", desc := "(I)I" } : Jvm.MethodName)) ∈ lw_tbl := lw_at lw_m7 55 rfl
theorem q1596 : (Jvm.Cond.instanceMethod ({ cls := "PaneKeepsWeatherModel", name := "spiltFrom", desc := "(I)I" } : Jvm.MethodName)) ∈ lw_all := lw_g (lw_at lw_m7 56 rfl) rfl
theorem q1597 : (Jvm.Cond.code ({ cls := "PaneKeepsWeatherModel", name := "spiltFrom", desc := "(I)I" } : Jvm.MethodName) prog_16_method_41_code (5 : Nat) (Option.some Jvm.ClassFile.FieldType.int)) ∈ lw_all := lw_g (lw_at lw_m7 57 rfl) rfl
theorem q1600 : (Jvm.Cond.instanceMethod ({ cls := "PaneKeepsWeatherModel", name := "feed", desc := "(I)I" } : Jvm.MethodName)) ∈ lw_all := lw_g (lw_at lw_m7 60 rfl) rfl
theorem q1601 : (Jvm.Cond.selects "PaneKeepsWeatherModel" ({ cls := "PaneKeepsWeatherModel", name := "feed", desc := "(I)I" } : Jvm.MethodName) ({ cls := "PaneKeepsWeatherModel", name := "feed", desc := "(I)I" } : Jvm.MethodName)) ∈ lw_all := lw_g (lw_at lw_m7 61 rfl) rfl
theorem q1602 : (Jvm.Cond.code ({ cls := "PaneKeepsWeatherModel", name := "feed", desc := "(I)I" } : Jvm.MethodName) prog_16_method_18_code (2 : Nat) (Option.some Jvm.ClassFile.FieldType.int)) ∈ lw_all := lw_g (lw_at lw_m7 62 rfl) rfl
theorem q1603 : (Jvm.Cond.constantLong "PaneKeepsWeatherModel" (151 : Nat) (255 : Int64)) ∈ lw_all := lw_g (lw_at lw_m7 63 rfl) rfl
theorem q1605 : (Jvm.Cond.instanceMethod ({ cls := "PaneKeepsWeatherModel", name := "text", desc := "()I" } : Jvm.MethodName)) ∈ lw_all := lw_g (lw_at lw_m7 65 rfl) rfl
theorem q1606 : (Jvm.Cond.selects "PaneKeepsWeatherModel" ({ cls := "PaneKeepsWeatherModel", name := "text", desc := "()I" } : Jvm.MethodName) ({ cls := "PaneKeepsWeatherModel", name := "text", desc := "()I" } : Jvm.MethodName)) ∈ lw_all := lw_g (lw_at lw_m7 66 rfl) rfl
theorem q1607 : (Jvm.Cond.code ({ cls := "PaneKeepsWeatherModel", name := "text", desc := "()I" } : Jvm.MethodName) prog_16_method_35_code (2 : Nat) (Option.some Jvm.ClassFile.FieldType.int)) ∈ lw_all := lw_g (lw_at lw_m7 67 rfl) rfl
theorem q1609 : (Jvm.Cond.instanceMethod ({ cls := "PaneKeepsWeatherModel", name := "force", desc := "(I)I" } : Jvm.MethodName)) ∈ lw_all := lw_g (lw_at lw_m7 69 rfl) rfl
theorem q1610 : (Jvm.Cond.selects "PaneKeepsWeatherModel" ({ cls := "PaneKeepsWeatherModel", name := "force", desc := "(I)I" } : Jvm.MethodName) ({ cls := "PaneKeepsWeatherModel", name := "force", desc := "(I)I" } : Jvm.MethodName)) ∈ lw_all := lw_g (lw_at lw_m7 70 rfl) rfl
theorem q1611 : (Jvm.Cond.code ({ cls := "PaneKeepsWeatherModel", name := "force", desc := "(I)I" } : Jvm.MethodName) prog_16_method_36_code (3 : Nat) (Option.some Jvm.ClassFile.FieldType.int)) ∈ lw_all := lw_g (lw_at lw_m7 71 rfl) rfl
theorem q1613 : (Jvm.Cond.instanceMethod ({ cls := "PaneKeepsWeatherModel", name := "light", desc := "(III)I" } : Jvm.MethodName)) ∈ lw_all := lw_g (lw_at lw_m7 73 rfl) rfl
theorem q1614 : (Jvm.Cond.selects "PaneKeepsWeatherModel" ({ cls := "PaneKeepsWeatherModel", name := "light", desc := "(III)I" } : Jvm.MethodName) ({ cls := "PaneKeepsWeatherModel", name := "light", desc := "(III)I" } : Jvm.MethodName)) ∈ lw_all := lw_g (lw_at lw_m7 74 rfl) rfl
theorem q1615 : (Jvm.Cond.code ({ cls := "PaneKeepsWeatherModel", name := "light", desc := "(III)I" } : Jvm.MethodName) prog_16_method_42_code (4 : Nat) (Option.some Jvm.ClassFile.FieldType.int)) ∈ lw_all := lw_g (lw_at lw_m7 75 rfl) rfl
theorem q1616 : (Jvm.Cond.constantLong "PaneKeepsWeatherModel" (277 : Nat) (7 : Int64)) ∈ lw_all := lw_g (lw_at lw_m7 76 rfl) rfl
theorem q1618 : (Jvm.Cond.instanceMethod ({ cls := "PaneKeepsWeatherModel", name := "house", desc := "(I)I" } : Jvm.MethodName)) ∈ lw_all := lw_g (lw_at lw_m7 78 rfl) rfl
theorem q1619 : (Jvm.Cond.selects "PaneKeepsWeatherModel" ({ cls := "PaneKeepsWeatherModel", name := "house", desc := "(I)I" } : Jvm.MethodName) ({ cls := "PaneKeepsWeatherModel", name := "house", desc := "(I)I" } : Jvm.MethodName)) ∈ lw_all := lw_g (lw_at lw_m7 79 rfl) rfl
theorem q1620 : (Jvm.Cond.code ({ cls := "PaneKeepsWeatherModel", name := "house", desc := "(I)I" } : Jvm.MethodName) prog_16_method_49_code (6 : Nat) (Option.some Jvm.ClassFile.FieldType.int)) ∈ lw_all := lw_g (lw_at lw_m7 80 rfl) rfl
theorem q1621 : (Jvm.Cond.methodLink "PaneKeepsWeatherModel" (289 : Nat) ({ cls := "PaneKeepsWeatherModel", name := "brightNow", desc := "()I" } : Jvm.MethodName)) ∈ lw_all := lw_g (lw_at lw_m7 81 rfl) rfl
theorem q1622 : (Jvm.Cond.privateMethod ({ cls := "PaneKeepsWeatherModel", name := "brightNow", desc := "()I" } : Jvm.MethodName)) ∈ lw_tbl := lw_at lw_m7 82 rfl
theorem q1623 : (Jvm.Cond.instanceMethod ({ cls := "PaneKeepsWeatherModel", name := "brightNow", desc := "()I" } : Jvm.MethodName)) ∈ lw_all := lw_g (lw_at lw_m7 83 rfl) rfl
theorem q1624 : (Jvm.Cond.code ({ cls := "PaneKeepsWeatherModel", name := "brightNow", desc := "()I" } : Jvm.MethodName) prog_16_method_46_code (3 : Nat) (Option.some Jvm.ClassFile.FieldType.int)) ∈ lw_all := lw_g (lw_at lw_m7 84 rfl) rfl
theorem q1625 : (Jvm.Cond.methodLink "PaneKeepsWeatherModel" (292 : Nat) ({ cls := "PaneKeepsWeatherModel", name := "quarrelSet", desc := "()I" } : Jvm.MethodName)) ∈ lw_all := lw_g (lw_at lw_m7 85 rfl) rfl
theorem q1626 : (Jvm.Cond.privateMethod ({ cls := "PaneKeepsWeatherModel", name := "quarrelSet", desc := "()I" } : Jvm.MethodName)) ∈ lw_tbl := lw_at lw_m7 86 rfl
theorem q1627 : (Jvm.Cond.instanceMethod ({ cls := "PaneKeepsWeatherModel", name := "quarrelSet", desc := "()I" } : Jvm.MethodName)) ∈ lw_all := lw_g (lw_at lw_m7 87 rfl) rfl
theorem q1628 : (Jvm.Cond.code ({ cls := "PaneKeepsWeatherModel", name := "quarrelSet", desc := "()I" } : Jvm.MethodName) prog_16_method_47_code (3 : Nat) (Option.some Jvm.ClassFile.FieldType.int)) ∈ lw_all := lw_g (lw_at lw_m7 88 rfl) rfl
theorem q1629 : (Jvm.Cond.methodLink "PaneKeepsWeatherModel" (285 : Nat) ({ cls := "PaneKeepsWeatherModel", name := "quarrels", desc := "(III)Z" } : Jvm.MethodName)) ∈ lw_all := lw_g (lw_at lw_m7 89 rfl) rfl
theorem q1630 : (Jvm.Cond.privateMethod ({ cls := "PaneKeepsWeatherModel", name := "quarrels", desc := "(III)Z" } : Jvm.MethodName)) ∈ lw_tbl := lw_at lw_m7 90 rfl
theorem q1631 : (Jvm.Cond.instanceMethod ({ cls := "PaneKeepsWeatherModel", name := "quarrels", desc := "(III)Z" } : Jvm.MethodName)) ∈ lw_all := lw_g (lw_at lw_m7 91 rfl) rfl
theorem q1632 : (Jvm.Cond.code ({ cls := "PaneKeepsWeatherModel", name := "quarrels", desc := "(III)Z" } : Jvm.MethodName) prog_16_method_45_code (5 : Nat) (Option.some Jvm.ClassFile.FieldType.boolean)) ∈ lw_all := lw_g (lw_at lw_m7 92 rfl) rfl
theorem q1634 : (Jvm.Cond.instanceMethod ({ cls := "PaneKeepsWeatherModel", name := "half", desc := "(I)I" } : Jvm.MethodName)) ∈ lw_all := lw_g (lw_at lw_m7 94 rfl) rfl
theorem q1635 : (Jvm.Cond.selects "PaneKeepsWeatherModel" ({ cls := "PaneKeepsWeatherModel", name := "half", desc := "(I)I" } : Jvm.MethodName) ({ cls := "PaneKeepsWeatherModel", name := "half", desc := "(I)I" } : Jvm.MethodName)) ∈ lw_all := lw_g (lw_at lw_m7 95 rfl) rfl
theorem q1636 : (Jvm.Cond.code ({ cls := "PaneKeepsWeatherModel", name := "half", desc := "(I)I" } : Jvm.MethodName) prog_16_method_50_code (5 : Nat) (Option.some Jvm.ClassFile.FieldType.int)) ∈ lw_all := lw_g (lw_at lw_m7 96 rfl) rfl
theorem q1638 : (Jvm.Cond.instanceMethod ({ cls := "PaneKeepsWeatherModel", name := "brightest", desc := "(I)I" } : Jvm.MethodName)) ∈ lw_all := lw_g (lw_at lw_m7 98 rfl) rfl
theorem q1639 : (Jvm.Cond.selects "PaneKeepsWeatherModel" ({ cls := "PaneKeepsWeatherModel", name := "brightest", desc := "(I)I" } : Jvm.MethodName) ({ cls := "PaneKeepsWeatherModel", name := "brightest", desc := "(I)I" } : Jvm.MethodName)) ∈ lw_all := lw_g (lw_at lw_m7 99 rfl) rfl
theorem q1640 : (Jvm.Cond.code ({ cls := "PaneKeepsWeatherModel", name := "brightest", desc := "(I)I" } : Jvm.MethodName) prog_16_method_55_code (2 : Nat) (Option.some Jvm.ClassFile.FieldType.int)) ∈ lw_all := lw_g (lw_at lw_m7 100 rfl) rfl
theorem q1641 : (Jvm.Cond.methodLink "PaneKeepsWeatherModel" (318 : Nat) ({ cls := "PaneKeepsWeatherModel", name := "finds", desc := "(I)V" } : Jvm.MethodName)) ∈ lw_all := lw_g (lw_at lw_m7 101 rfl) rfl
theorem q1642 : (Jvm.Cond.privateMethod ({ cls := "PaneKeepsWeatherModel", name := "finds", desc := "(I)V" } : Jvm.MethodName)) ∈ lw_tbl := lw_at lw_m7 102 rfl
theorem q1643 : (Jvm.Cond.instanceMethod ({ cls := "PaneKeepsWeatherModel", name := "finds", desc := "(I)V" } : Jvm.MethodName)) ∈ lw_all := lw_g (lw_at lw_m7 103 rfl) rfl
theorem q1644 : (Jvm.Cond.code ({ cls := "PaneKeepsWeatherModel", name := "finds", desc := "(I)V" } : Jvm.MethodName) prog_16_method_54_code (2 : Nat) (Option.none : Option Jvm.ClassFile.FieldType)) ∈ lw_all := lw_g (lw_at lw_m7 104 rfl) rfl
theorem q1645 : (Jvm.Cond.methodLink "PaneKeepsWeatherModel" (315 : Nat) ({ cls := "PaneKeepsWeatherModel", name := "tables", desc := "()V" } : Jvm.MethodName)) ∈ lw_all := lw_g (lw_at lw_m7 105 rfl) rfl
theorem q1646 : (Jvm.Cond.privateMethod ({ cls := "PaneKeepsWeatherModel", name := "tables", desc := "()V" } : Jvm.MethodName)) ∈ lw_tbl := lw_at lw_m7 106 rfl
theorem q1647 : (Jvm.Cond.instanceMethod ({ cls := "PaneKeepsWeatherModel", name := "tables", desc := "()V" } : Jvm.MethodName)) ∈ lw_all := lw_g (lw_at lw_m7 107 rfl) rfl
theorem q1648 : (Jvm.Cond.code ({ cls := "PaneKeepsWeatherModel", name := "tables", desc := "()V" } : Jvm.MethodName) prog_16_method_51_code (4 : Nat) (Option.none : Option Jvm.ClassFile.FieldType)) ∈ lw_all := lw_g (lw_at lw_m7 108 rfl) rfl
theorem q1649 : (Jvm.Cond.methodLink "PaneKeepsWeatherModel" (311 : Nat) ({ cls := "PaneKeepsWeatherModel", name := "seeks", desc := "(IIIIIZ)V" } : Jvm.MethodName)) ∈ lw_all := lw_g (lw_at lw_m7 109 rfl) rfl
theorem q1650 : (Jvm.Cond.privateMethod ({ cls := "PaneKeepsWeatherModel", name := "seeks", desc := "(IIIIIZ)V" } : Jvm.MethodName)) ∈ lw_tbl := lw_at lw_m7 110 rfl
theorem q1651 : (Jvm.Cond.instanceMethod ({ cls := "PaneKeepsWeatherModel", name := "seeks", desc := "(IIIIIZ)V" } : Jvm.MethodName)) ∈ lw_all := lw_g (lw_at lw_m7 111 rfl) rfl
theorem q1652 : (Jvm.Cond.code ({ cls := "PaneKeepsWeatherModel", name := "seeks", desc := "(IIIIIZ)V" } : Jvm.MethodName) prog_16_method_53_code (10 : Nat) (Option.none : Option Jvm.ClassFile.FieldType)) ∈ lw_all := lw_g (lw_at lw_m7 112 rfl) rfl
theorem q1653 : (Jvm.Cond.methodLink "PaneKeepsWeatherModel" (307 : Nat) ({ cls := "PaneKeepsWeatherModel", name := "looks", desc := "(IIIZ)V" } : Jvm.MethodName)) ∈ lw_all := lw_g (lw_at lw_m7 113 rfl) rfl
theorem q1654 : (Jvm.Cond.privateMethod ({ cls := "PaneKeepsWeatherModel", name := "looks", desc := "(IIIZ)V" } : Jvm.MethodName)) ∈ lw_tbl := lw_at lw_m7 114 rfl
theorem q1655 : (Jvm.Cond.instanceMethod ({ cls := "PaneKeepsWeatherModel", name := "looks", desc := "(IIIZ)V" } : Jvm.MethodName)) ∈ lw_all := lw_g (lw_at lw_m7 115 rfl) rfl
theorem q1656 : (Jvm.Cond.code ({ cls := "PaneKeepsWeatherModel", name := "looks", desc := "(IIIZ)V" } : Jvm.MethodName) prog_16_method_52_code (6 : Nat) (Option.none : Option Jvm.ClassFile.FieldType)) ∈ lw_all := lw_g (lw_at lw_m7 116 rfl) rfl
theorem q1658 : (Jvm.Cond.instanceMethod ({ cls := "PaneKeepsWeatherModel", name := "cheapest", desc := "(I)I" } : Jvm.MethodName)) ∈ lw_all := lw_g (lw_at lw_m7 118 rfl) rfl
theorem q1659 : (Jvm.Cond.selects "PaneKeepsWeatherModel" ({ cls := "PaneKeepsWeatherModel", name := "cheapest", desc := "(I)I" } : Jvm.MethodName) ({ cls := "PaneKeepsWeatherModel", name := "cheapest", desc := "(I)I" } : Jvm.MethodName)) ∈ lw_all := lw_g (lw_at lw_m7 119 rfl) rfl
theorem q1660 : (Jvm.Cond.code ({ cls := "PaneKeepsWeatherModel", name := "cheapest", desc := "(I)I" } : Jvm.MethodName) prog_16_method_56_code (2 : Nat) (Option.some Jvm.ClassFile.FieldType.int)) ∈ lw_all := lw_g (lw_at lw_m7 120 rfl) rfl
theorem q1662 : (Jvm.Cond.instanceMethod ({ cls := "PaneKeepsWeatherModel", name := "turnOut", desc := "(I)I" } : Jvm.MethodName)) ∈ lw_all := lw_g (lw_at lw_m7 122 rfl) rfl
theorem q1663 : (Jvm.Cond.selects "PaneKeepsWeatherModel" ({ cls := "PaneKeepsWeatherModel", name := "turnOut", desc := "(I)I" } : Jvm.MethodName) ({ cls := "PaneKeepsWeatherModel", name := "turnOut", desc := "(I)I" } : Jvm.MethodName)) ∈ lw_all := lw_g (lw_at lw_m7 123 rfl) rfl
theorem q1664 : (Jvm.Cond.code ({ cls := "PaneKeepsWeatherModel", name := "turnOut", desc := "(I)I" } : Jvm.MethodName) prog_16_method_57_code (7 : Nat) (Option.some Jvm.ClassFile.FieldType.int)) ∈ lw_all := lw_g (lw_at lw_m7 124 rfl) rfl
theorem q1665 : (Jvm.Cond.methodLink "PaneKeepsWeatherModel" (322 : Nat) ({ cls := "PaneKeepsWeatherModel", name := "bitsOf", desc := "(I)I" } : Jvm.MethodName)) ∈ lw_all := lw_g (lw_at lw_m7 125 rfl) rfl
theorem q1666 : (Jvm.Cond.static ({ cls := "PaneKeepsWeatherModel", name := "bitsOf", desc := "(I)I" } : Jvm.MethodName)) ∈ lw_all := lw_g (lw_at lw_m7 126 rfl) rfl
theorem q1667 : (Jvm.Cond.code ({ cls := "PaneKeepsWeatherModel", name := "bitsOf", desc := "(I)I" } : Jvm.MethodName) prog_16_method_48_code (3 : Nat) (Option.some Jvm.ClassFile.FieldType.int)) ∈ lw_all := lw_g (lw_at lw_m7 127 rfl) rfl
theorem q1669 : (Jvm.Cond.instanceMethod ({ cls := "PaneKeepsWeatherModel", name := "swap", desc := "(I)I" } : Jvm.MethodName)) ∈ lw_all := lw_g (lw_at lw_m7 129 rfl) rfl
theorem q1670 : (Jvm.Cond.selects "PaneKeepsWeatherModel" ({ cls := "PaneKeepsWeatherModel", name := "swap", desc := "(I)I" } : Jvm.MethodName) ({ cls := "PaneKeepsWeatherModel", name := "swap", desc := "(I)I" } : Jvm.MethodName)) ∈ lw_all := lw_g (lw_at lw_m7 130 rfl) rfl
theorem q1671 : (Jvm.Cond.code ({ cls := "PaneKeepsWeatherModel", name := "swap", desc := "(I)I" } : Jvm.MethodName) prog_16_method_59_code (8 : Nat) (Option.some Jvm.ClassFile.FieldType.int)) ∈ lw_all := lw_g (lw_at lw_m7 131 rfl) rfl
theorem q1672 : (Jvm.Cond.methodLink "PaneKeepsWeatherModel" (325 : Nat) ({ cls := "PaneKeepsWeatherModel", name := "swaps", desc := "(II)V" } : Jvm.MethodName)) ∈ lw_all := lw_g (lw_at lw_m7 132 rfl) rfl
theorem q1673 : (Jvm.Cond.privateMethod ({ cls := "PaneKeepsWeatherModel", name := "swaps", desc := "(II)V" } : Jvm.MethodName)) ∈ lw_tbl := lw_at lw_m7 133 rfl
theorem q1674 : (Jvm.Cond.instanceMethod ({ cls := "PaneKeepsWeatherModel", name := "swaps", desc := "(II)V" } : Jvm.MethodName)) ∈ lw_all := lw_g (lw_at lw_m7 134 rfl) rfl
theorem q1675 : (Jvm.Cond.code ({ cls := "PaneKeepsWeatherModel", name := "swaps", desc := "(II)V" } : Jvm.MethodName) prog_16_method_58_code (4 : Nat) (Option.none : Option Jvm.ClassFile.FieldType)) ∈ lw_all := lw_g (lw_at lw_m7 135 rfl) rfl
theorem q1677 : (Jvm.Cond.instanceMethod ({ cls := "PaneKeepsWeatherModel", name := "settle", desc := "()I" } : Jvm.MethodName)) ∈ lw_all := lw_g (lw_at lw_m7 137 rfl) rfl
theorem q1678 : (Jvm.Cond.selects "PaneKeepsWeatherModel" ({ cls := "PaneKeepsWeatherModel", name := "settle", desc := "()I" } : Jvm.MethodName) ({ cls := "PaneKeepsWeatherModel", name := "settle", desc := "()I" } : Jvm.MethodName)) ∈ lw_all := lw_g (lw_at lw_m7 138 rfl) rfl
theorem q1679 : (Jvm.Cond.code ({ cls := "PaneKeepsWeatherModel", name := "settle", desc := "()I" } : Jvm.MethodName) prog_16_method_60_code (3 : Nat) (Option.some Jvm.ClassFile.FieldType.int)) ∈ lw_all := lw_g (lw_at lw_m7 139 rfl) rfl
theorem q1681 : (Jvm.Cond.instanceMethod ({ cls := "PaneKeepsWeatherModel", name := "tells", desc := "(III)I" } : Jvm.MethodName)) ∈ lw_all := lw_g (lw_at lw_m7 141 rfl) rfl
theorem q1682 : (Jvm.Cond.selects "PaneKeepsWeatherModel" ({ cls := "PaneKeepsWeatherModel", name := "tells", desc := "(III)I" } : Jvm.MethodName) ({ cls := "PaneKeepsWeatherModel", name := "tells", desc := "(III)I" } : Jvm.MethodName)) ∈ lw_all := lw_g (lw_at lw_m7 142 rfl) rfl
theorem q1683 : (Jvm.Cond.code ({ cls := "PaneKeepsWeatherModel", name := "tells", desc := "(III)I" } : Jvm.MethodName) prog_16_method_62_code (13 : Nat) (Option.some Jvm.ClassFile.FieldType.int)) ∈ lw_all := lw_g (lw_at lw_m7 143 rfl) rfl
theorem q1684 : (Jvm.Cond.constantLong "PaneKeepsWeatherModel" (329 : Nat) (79 : Int64)) ∈ lw_all := lw_g (lw_at lw_m7 144 rfl) rfl
theorem q1685 : (Jvm.Cond.methodLink "PaneKeepsWeatherModel" (331 : Nat) ({ cls := "PaneKeepsWeatherModel", name := "isSheet", desc := "(I)Z" } : Jvm.MethodName)) ∈ lw_all := lw_g (lw_at lw_m7 145 rfl) rfl
theorem q1686 : (Jvm.Cond.static ({ cls := "PaneKeepsWeatherModel", name := "isSheet", desc := "(I)Z" } : Jvm.MethodName)) ∈ lw_all := lw_g (lw_at lw_m7 146 rfl) rfl
theorem q1687 : (Jvm.Cond.code ({ cls := "PaneKeepsWeatherModel", name := "isSheet", desc := "(I)Z" } : Jvm.MethodName) prog_16_method_71_code (1 : Nat) (Option.some Jvm.ClassFile.FieldType.boolean)) ∈ lw_all := lw_g (lw_at lw_m7 147 rfl) rfl
theorem q1688 : (Jvm.Cond.methodLink "PaneKeepsWeatherModel" (334 : Nat) ({ cls := "PaneKeepsWeatherModel", name := "firstOther", desc := "(III)I" } : Jvm.MethodName)) ∈ lw_all := lw_g (lw_at lw_m7 148 rfl) rfl
theorem q1689 : (Jvm.Cond.privateMethod ({ cls := "PaneKeepsWeatherModel", name := "firstOther", desc := "(III)I" } : Jvm.MethodName)) ∈ lw_tbl := lw_at lw_m7 149 rfl
theorem q1690 : (Jvm.Cond.instanceMethod ({ cls := "PaneKeepsWeatherModel", name := "firstOther", desc := "(III)I" } : Jvm.MethodName)) ∈ lw_all := lw_g (lw_at lw_m7 150 rfl) rfl
theorem q1691 : (Jvm.Cond.code ({ cls := "PaneKeepsWeatherModel", name := "firstOther", desc := "(III)I" } : Jvm.MethodName) prog_16_method_61_code (5 : Nat) (Option.some Jvm.ClassFile.FieldType.int)) ∈ lw_all := lw_g (lw_at lw_m7 151 rfl) rfl
theorem q1693 : (Jvm.Cond.instanceMethod ({ cls := "PaneKeepsWeatherModel", name := "film", desc := "(III)I" } : Jvm.MethodName)) ∈ lw_all := lw_g (lw_at lw_m7 153 rfl) rfl
theorem q1694 : (Jvm.Cond.selects "PaneKeepsWeatherModel" ({ cls := "PaneKeepsWeatherModel", name := "film", desc := "(III)I" } : Jvm.MethodName) ({ cls := "PaneKeepsWeatherModel", name := "film", desc := "(III)I" } : Jvm.MethodName)) ∈ lw_all := lw_g (lw_at lw_m7 154 rfl) rfl
theorem q1695 : (Jvm.Cond.code ({ cls := "PaneKeepsWeatherModel", name := "film", desc := "(III)I" } : Jvm.MethodName) prog_16_method_63_code (5 : Nat) (Option.some Jvm.ClassFile.FieldType.int)) ∈ lw_all := lw_g (lw_at lw_m7 155 rfl) rfl
theorem q1696 : (Jvm.Cond.methodLink "PaneKeepsWeatherModel" (337 : Nat) ({ cls := "PaneKeepsWeatherModel", name := "sheet", desc := "(III)I" } : Jvm.MethodName)) ∈ lw_all := lw_g (lw_at lw_m7 156 rfl) rfl
theorem q1697 : (Jvm.Cond.instanceMethod ({ cls := "PaneKeepsWeatherModel", name := "sheet", desc := "(III)I" } : Jvm.MethodName)) ∈ lw_all := lw_g (lw_at lw_m7 157 rfl) rfl
theorem q1698 : (Jvm.Cond.selects "PaneKeepsWeatherModel" ({ cls := "PaneKeepsWeatherModel", name := "sheet", desc := "(III)I" } : Jvm.MethodName) ({ cls := "PaneKeepsWeatherModel", name := "sheet", desc := "(III)I" } : Jvm.MethodName)) ∈ lw_all := lw_g (lw_at lw_m7 158 rfl) rfl
theorem q1699 : (Jvm.Cond.code ({ cls := "PaneKeepsWeatherModel", name := "sheet", desc := "(III)I" } : Jvm.MethodName) prog_16_method_72_code (5 : Nat) (Option.some Jvm.ClassFile.FieldType.int)) ∈ lw_all := lw_g (lw_at lw_m7 159 rfl) rfl
theorem q1700 : (Jvm.Cond.constantLong "PaneKeepsWeatherModel" (360 : Nat) (-1 : Int64)) ∈ lw_all := lw_g (lw_at lw_m7 160 rfl) rfl
theorem q1701 : (Jvm.Cond.constantLong "PaneKeepsWeatherModel" (362 : Nat) (2 : Int64)) ∈ lw_all := lw_g (lw_at lw_m7 161 rfl) rfl
theorem q1703 : (Jvm.Cond.instanceMethod ({ cls := "PaneKeepsWeatherModel", name := "drawn", desc := "(I)I" } : Jvm.MethodName)) ∈ lw_all := lw_g (lw_at lw_m7 163 rfl) rfl
theorem q1704 : (Jvm.Cond.selects "PaneKeepsWeatherModel" ({ cls := "PaneKeepsWeatherModel", name := "drawn", desc := "(I)I" } : Jvm.MethodName) ({ cls := "PaneKeepsWeatherModel", name := "drawn", desc := "(I)I" } : Jvm.MethodName)) ∈ lw_all := lw_g (lw_at lw_m7 164 rfl) rfl
theorem q1705 : (Jvm.Cond.code ({ cls := "PaneKeepsWeatherModel", name := "drawn", desc := "(I)I" } : Jvm.MethodName) prog_16_method_66_code (3 : Nat) (Option.some Jvm.ClassFile.FieldType.int)) ∈ lw_all := lw_g (lw_at lw_m7 165 rfl) rfl
theorem q1706 : (Jvm.Cond.methodLink "PaneKeepsWeatherModel" (341 : Nat) ({ cls := "PaneKeepsWeatherModel", name := "draws", desc := "(I)V" } : Jvm.MethodName)) ∈ lw_all := lw_g (lw_at lw_m7 166 rfl) rfl
theorem q1707 : (Jvm.Cond.privateMethod ({ cls := "PaneKeepsWeatherModel", name := "draws", desc := "(I)V" } : Jvm.MethodName)) ∈ lw_tbl := lw_at lw_m7 167 rfl
theorem q1708 : (Jvm.Cond.instanceMethod ({ cls := "PaneKeepsWeatherModel", name := "draws", desc := "(I)V" } : Jvm.MethodName)) ∈ lw_all := lw_g (lw_at lw_m7 168 rfl) rfl
theorem q1709 : (Jvm.Cond.code ({ cls := "PaneKeepsWeatherModel", name := "draws", desc := "(I)V" } : Jvm.MethodName) prog_16_method_64_code (4 : Nat) (Option.none : Option Jvm.ClassFile.FieldType)) ∈ lw_all := lw_g (lw_at lw_m7 169 rfl) rfl
theorem q1710 : (Jvm.Cond.constant "PaneKeepsWeatherModel" (340 : Nat) (1103515245 : Int32)) ∈ lw_all := lw_g (lw_at lw_m7 170 rfl) rfl
theorem q1711 : (Jvm.Cond.methodLink "PaneKeepsWeatherModel" (344 : Nat) ({ cls := "PaneKeepsWeatherModel", name := "laysBack", desc := "()V" } : Jvm.MethodName)) ∈ lw_all := lw_g (lw_at lw_m7 171 rfl) rfl
theorem q1712 : (Jvm.Cond.privateMethod ({ cls := "PaneKeepsWeatherModel", name := "laysBack", desc := "()V" } : Jvm.MethodName)) ∈ lw_tbl := lw_at lw_m7 172 rfl
theorem q1713 : (Jvm.Cond.instanceMethod ({ cls := "PaneKeepsWeatherModel", name := "laysBack", desc := "()V" } : Jvm.MethodName)) ∈ lw_all := lw_g (lw_at lw_m7 173 rfl) rfl
theorem q1714 : (Jvm.Cond.code ({ cls := "PaneKeepsWeatherModel", name := "laysBack", desc := "()V" } : Jvm.MethodName) prog_16_method_65_code (2 : Nat) (Option.none : Option Jvm.ClassFile.FieldType)) ∈ lw_all := lw_g (lw_at lw_m7 174 rfl) rfl
theorem q1716 : (Jvm.Cond.instanceMethod ({ cls := "PaneKeepsWeatherModel", name := "chance", desc := "(III)J" } : Jvm.MethodName)) ∈ lw_all := lw_g (lw_at lw_m7 176 rfl) rfl
theorem q1717 : (Jvm.Cond.selects "PaneKeepsWeatherModel" ({ cls := "PaneKeepsWeatherModel", name := "chance", desc := "(III)J" } : Jvm.MethodName) ({ cls := "PaneKeepsWeatherModel", name := "chance", desc := "(III)J" } : Jvm.MethodName)) ∈ lw_all := lw_g (lw_at lw_m7 177 rfl) rfl
theorem q1718 : (Jvm.Cond.code ({ cls := "PaneKeepsWeatherModel", name := "chance", desc := "(III)J" } : Jvm.MethodName) prog_16_method_67_code (12 : Nat) (Option.some Jvm.ClassFile.FieldType.long)) ∈ lw_all := lw_g (lw_at lw_m7 178 rfl) rfl
theorem q1719 : (Jvm.Cond.constantLong "PaneKeepsWeatherModel" (347 : Nat) (20 : Int64)) ∈ lw_all := lw_g (lw_at lw_m7 179 rfl) rfl
theorem q1720 : (Jvm.Cond.constantLong "PaneKeepsWeatherModel" (349 : Nat) (-4611686018427387904 : Int64)) ∈ lw_all := lw_g (lw_at lw_m7 180 rfl) rfl
theorem q1722 : (Jvm.Cond.instanceMethod ({ cls := "PaneKeepsWeatherModel", name := "image", desc := "()I" } : Jvm.MethodName)) ∈ lw_all := lw_g (lw_at lw_m7 182 rfl) rfl
theorem q1723 : (Jvm.Cond.selects "PaneKeepsWeatherModel" ({ cls := "PaneKeepsWeatherModel", name := "image", desc := "()I" } : Jvm.MethodName) ({ cls := "PaneKeepsWeatherModel", name := "image", desc := "()I" } : Jvm.MethodName)) ∈ lw_all := lw_g (lw_at lw_m7 183 rfl) rfl
theorem q1724 : (Jvm.Cond.code ({ cls := "PaneKeepsWeatherModel", name := "image", desc := "()I" } : Jvm.MethodName) prog_16_method_68_code (2 : Nat) (Option.some Jvm.ClassFile.FieldType.int)) ∈ lw_all := lw_g (lw_at lw_m7 184 rfl) rfl
theorem q1726 : (Jvm.Cond.instanceMethod ({ cls := "PaneKeepsWeatherModel", name := "back", desc := "()I" } : Jvm.MethodName)) ∈ lw_all := lw_g (lw_at lw_m7 186 rfl) rfl
theorem q1727 : (Jvm.Cond.selects "PaneKeepsWeatherModel" ({ cls := "PaneKeepsWeatherModel", name := "back", desc := "()I" } : Jvm.MethodName) ({ cls := "PaneKeepsWeatherModel", name := "back", desc := "()I" } : Jvm.MethodName)) ∈ lw_all := lw_g (lw_at lw_m7 187 rfl) rfl
theorem q1728 : (Jvm.Cond.code ({ cls := "PaneKeepsWeatherModel", name := "back", desc := "()I" } : Jvm.MethodName) prog_16_method_69_code (2 : Nat) (Option.some Jvm.ClassFile.FieldType.int)) ∈ lw_all := lw_g (lw_at lw_m7 188 rfl) rfl
theorem q1730 : (Jvm.Cond.instanceMethod ({ cls := "PaneKeepsWeatherModel", name := "count", desc := "(I)I" } : Jvm.MethodName)) ∈ lw_all := lw_g (lw_at lw_m7 190 rfl) rfl
theorem q1731 : (Jvm.Cond.selects "PaneKeepsWeatherModel" ({ cls := "PaneKeepsWeatherModel", name := "count", desc := "(I)I" } : Jvm.MethodName) ({ cls := "PaneKeepsWeatherModel", name := "count", desc := "(I)I" } : Jvm.MethodName)) ∈ lw_all := lw_g (lw_at lw_m7 191 rfl) rfl
theorem q1732 : (Jvm.Cond.code ({ cls := "PaneKeepsWeatherModel", name := "count", desc := "(I)I" } : Jvm.MethodName) prog_16_method_70_code (4 : Nat) (Option.some Jvm.ClassFile.FieldType.int)) ∈ lw_all := lw_g (lw_at lw_m7 192 rfl) rfl
theorem q1735 : (Jvm.Cond.instanceMethod ({ cls := "PaneKeepsWeatherModel", name := "cell", desc := "(III)I" } : Jvm.MethodName)) ∈ lw_all := lw_g (lw_at lw_m7 195 rfl) rfl
theorem q1736 : (Jvm.Cond.selects "PaneKeepsWeatherModel" ({ cls := "PaneKeepsWeatherModel", name := "cell", desc := "(III)I" } : Jvm.MethodName) ({ cls := "PaneKeepsWeatherModel", name := "cell", desc := "(III)I" } : Jvm.MethodName)) ∈ lw_all := lw_g (lw_at lw_m7 196 rfl) rfl
theorem q1737 : (Jvm.Cond.code ({ cls := "PaneKeepsWeatherModel", name := "cell", desc := "(III)I" } : Jvm.MethodName) prog_16_method_73_code (4 : Nat) (Option.some Jvm.ClassFile.FieldType.int)) ∈ lw_all := lw_g (lw_at lw_m7 197 rfl) rfl
theorem q1739 : (Jvm.Cond.instanceMethod ({ cls := "PaneKeepsWeatherModel", name := "copy", desc := "(IIIII)I" } : Jvm.MethodName)) ∈ lw_all := lw_g (lw_at lw_m7 199 rfl) rfl
theorem q1740 : (Jvm.Cond.selects "PaneKeepsWeatherModel" ({ cls := "PaneKeepsWeatherModel", name := "copy", desc := "(IIIII)I" } : Jvm.MethodName) ({ cls := "PaneKeepsWeatherModel", name := "copy", desc := "(IIIII)I" } : Jvm.MethodName)) ∈ lw_all := lw_g (lw_at lw_m7 200 rfl) rfl
theorem q1741 : (Jvm.Cond.code ({ cls := "PaneKeepsWeatherModel", name := "copy", desc := "(IIIII)I" } : Jvm.MethodName) prog_16_method_74_code (9 : Nat) (Option.some Jvm.ClassFile.FieldType.int)) ∈ lw_all := lw_g (lw_at lw_m7 201 rfl) rfl
theorem q1743 : (Jvm.Cond.instanceMethod ({ cls := "PaneKeepsWeatherModel", name := "panes", desc := "(IIII)I" } : Jvm.MethodName)) ∈ lw_all := lw_g (lw_at lw_m7 203 rfl) rfl
theorem q1744 : (Jvm.Cond.selects "PaneKeepsWeatherModel" ({ cls := "PaneKeepsWeatherModel", name := "panes", desc := "(IIII)I" } : Jvm.MethodName) ({ cls := "PaneKeepsWeatherModel", name := "panes", desc := "(IIII)I" } : Jvm.MethodName)) ∈ lw_all := lw_g (lw_at lw_m7 204 rfl) rfl
theorem q1745 : (Jvm.Cond.code ({ cls := "PaneKeepsWeatherModel", name := "panes", desc := "(IIII)I" } : Jvm.MethodName) prog_16_method_75_code (8 : Nat) (Option.some Jvm.ClassFile.FieldType.int)) ∈ lw_all := lw_g (lw_at lw_m7 205 rfl) rfl
theorem q1746 : (Jvm.Cond.constantLong "PaneKeepsWeatherModel" (364 : Nat) (6 : Int64)) ∈ lw_all := lw_g (lw_at lw_m7 206 rfl) rfl
theorem q1747 : (Jvm.Cond.methodLink "PaneKeepsWeatherModel" (366 : Nat) ({ cls := "PaneKeepsWeatherModel", name := "pane", desc := "(III)I" } : Jvm.MethodName)) ∈ lw_all := lw_g (lw_at lw_m7 207 rfl) rfl
theorem q1749 : (Jvm.Cond.instanceMethod ({ cls := "PaneKeepsWeatherModel", name := "taken", desc := "(II)I" } : Jvm.MethodName)) ∈ lw_all := lw_g (lw_at lw_m7 209 rfl) rfl
theorem q1750 : (Jvm.Cond.selects "PaneKeepsWeatherModel" ({ cls := "PaneKeepsWeatherModel", name := "taken", desc := "(II)I" } : Jvm.MethodName) ({ cls := "PaneKeepsWeatherModel", name := "taken", desc := "(II)I" } : Jvm.MethodName)) ∈ lw_all := lw_g (lw_at lw_m7 210 rfl) rfl
theorem q1751 : (Jvm.Cond.code ({ cls := "PaneKeepsWeatherModel", name := "taken", desc := "(II)I" } : Jvm.MethodName) prog_16_method_77_code (4 : Nat) (Option.some Jvm.ClassFile.FieldType.int)) ∈ lw_all := lw_g (lw_at lw_m7 211 rfl) rfl
theorem q1752 : (Jvm.Cond.methodLink "PaneKeepsWeatherModel" (369 : Nat) ({ cls := "PaneKeepsWeatherModel", name := "over", desc := "(I)I" } : Jvm.MethodName)) ∈ lw_all := lw_g (lw_at lw_m7 212 rfl) rfl
theorem q1753 : (Jvm.Cond.static ({ cls := "PaneKeepsWeatherModel", name := "over", desc := "(I)I" } : Jvm.MethodName)) ∈ lw_all := lw_g (lw_at lw_m7 213 rfl) rfl
theorem q1754 : (Jvm.Cond.code ({ cls := "PaneKeepsWeatherModel", name := "over", desc := "(I)I" } : Jvm.MethodName) prog_16_method_76_code (1 : Nat) (Option.some Jvm.ClassFile.FieldType.int)) ∈ lw_all := lw_g (lw_at lw_m7 214 rfl) rfl
theorem in_X8 : ∀ w ∈ wsX80, w ∈ lw_all := lw_in wsX80 [1342, 1344, 1346, 1348, 1350, 1352, 1354, 1356, 1358, 1360, 1362, 1364, 1366, 1368, 1370, 1372, 1374, 1376, 1378, 1380, 1382, 1384, 1386, 1388, 1390, 1392, 1394, 1396, 1398, 1400, 1402, 1404, 1406, 1408, 1410, 1412, 1414, 1416, 1418, 1420, 1422, 1424, 1426, 1428, 1430, 1432, 1434, 1436, 1438] (by decide +kernel) (by decide +kernel)
