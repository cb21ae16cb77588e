/-! PaneKeepsWeather -/
set_option maxRecDepth 100000
def RX0 : String := "PaneKeepsWeather"
def TX0 : u_T := fun k => match k with
  | 0 => ("PaneKeepsWeather", "panes", "[LPaneKeepsWeather$Pane;", true)
  | 1 => ("PaneKeepsWeather", "many", "I", false)
  | 2 => ("PaneKeepsWeather", "purse", "I", false)
  | 3 => ("PaneKeepsWeather", "wants", "[I", true)
  | 4 => ("PaneKeepsWeather", "faulty", "LPaneKeepsWeather$Faulty;", true)
  | 5 => ("PaneKeepsWeather", "forPane", "I", false)
  | 6 => ("PaneKeepsWeather", "forHour", "I", false)
  | 7 => ("PaneKeepsWeather", "forOpening", "I", false)
  | 8 => ("PaneKeepsWeather", "forBetween", "I", false)
  | 9 => ("PaneKeepsWeather", "texts", "[[LPaneKeepsWeather$Node;", true)
  | 10 => ("PaneKeepsWeather", "textMany", "I", false)
  | 11 => ("PaneKeepsWeather", "keys", "[Ljava/lang/String;", true)
  | 12 => ("PaneKeepsWeather", "names", "[Ljava/lang/String;", true)
  | 13 => ("PaneKeepsWeather", "tape", "[B", true)
  | 14 => ("PaneKeepsWeather", "taped", "I", false)
  | 15 => ("PaneKeepsWeather", "length", "I", false)
  | 16 => ("PaneKeepsWeather", "at", "I", false)
  | 17 => ("PaneKeepsWeather", "begin", "I", false)
  | 18 => ("PaneKeepsWeather", "token", "I", false)
  | 19 => ("PaneKeepsWeather", "value", "I", false)
  | 20 => ("PaneKeepsWeather", "opens", "I", false)
  | 21 => ("PaneKeepsWeather", "rule", "I", false)
  | 22 => ("PaneKeepsWeather", "sums", "[[I", true)
  | 23 => ("PaneKeepsWeather", "prices", "[I", true)
  | 24 => ("PaneKeepsWeather", "quarrel", "[[[Z", true)
  | 25 => ("PaneKeepsWeather", "goal", "I", false)
  | 26 => ("PaneKeepsWeather", "hasBest", "Z", false)
  | 27 => ("PaneKeepsWeather", "bestValue", "I", false)
  | 28 => ("PaneKeepsWeather", "bestDigits", "I", false)
  | 29 => ("PaneKeepsWeather", "keptDays", "[I", true)
  | 30 => ("PaneKeepsWeather", "hasImage", "Z", false)
  | 31 => ("PaneKeepsWeather", "imageWants", "[I", true)
  | 32 => ("PaneKeepsWeather", "imagePanes", "[[I", true)
  | 33 => ("PaneKeepsWeather", "imageNumbers", "[I", true)
  | _ => ("PaneKeepsWeather", "sheets", "[LPaneKeepsWeather$Sheet;", true)
def tyX0 : Nat → FieldType := fun k => match k with
  | 0 => .array (.object "PaneKeepsWeather$Pane")
  | 1 => .int
  | 2 => .int
  | 3 => .array .int
  | 4 => .object "PaneKeepsWeather$Faulty"
  | 5 => .int
  | 6 => .int
  | 7 => .int
  | 8 => .int
  | 9 => .array (.array (.object "PaneKeepsWeather$Node"))
  | 10 => .int
  | 11 => .array (.object "java/lang/String")
  | 12 => .array (.object "java/lang/String")
  | 13 => .array .byte
  | 14 => .int
  | 15 => .int
  | 16 => .int
  | 17 => .int
  | 18 => .int
  | 19 => .int
  | 20 => .int
  | 21 => .int
  | 22 => .array (.array .int)
  | 23 => .array .int
  | 24 => .array (.array (.array .boolean))
  | 25 => .int
  | 26 => .boolean
  | 27 => .int
  | 28 => .int
  | 29 => .array .int
  | 30 => .boolean
  | 31 => .array .int
  | 32 => .array (.array .int)
  | 33 => .array .int
  | _ => .array (.object "PaneKeepsWeather$Sheet")
abbrev wsX00 : List Cond := u_ws RX0 TX0 35
set_option maxRecDepth 100000 in
theorem nmX0 : ∀ a, a < 35 → ∀ b, b < 35 → a ≠ b → (TX0 a).2.1 ≠ (TX0 b).2.1 := by decide +kernel
set_option maxRecDepth 100000 in
theorem tyX0_ok : ∀ k, k < 35 → parseFieldDescriptor (TX0 k).2.2.1 = some (tyX0 k) := by decide +kernel
abbrev cX0_pane : ByteArray := prog_1_method_6_code
def yX0_pane : MethodName := ⟨RX0, "pane", "(III)I"⟩
def dkwX0_pane_3 : List UInt8 := [96, 181, 0, 18, 42, 180, 0, 18, 4, 100, 172]
abbrev dktX0_pane_3 : List UInt8 := dkwX0_pane_3 ++ []
def dkwX0_pane_2 : List UInt8 := [16, 252, 172, 42, 180, 0, 49, 42, 180, 0, 18, 27, 28, 29, 184, 0, 53, 83, 42, 89, 180, 0, 18, 4]
abbrev dktX0_pane_2 : List UInt8 := dkwX0_pane_2 ++ dktX0_pane_3
def dkwX0_pane_1 : List UInt8 := [29, 133, 9, 20, 0, 47, 184, 0, 14, 154, 0, 6, 16, 254, 172, 42, 180, 0, 18, 16, 6, 160, 0, 6]
abbrev dktX0_pane_1 : List UInt8 := dkwX0_pane_1 ++ dktX0_pane_2
def dkwX0_pane_0 : List UInt8 := [27, 133, 9, 20, 0, 43, 184, 0, 14, 153, 0, 27, 28, 133, 9, 20, 0, 45, 184, 0, 14, 153, 0, 15]
abbrev dktX0_pane_0 : List UInt8 := dkwX0_pane_0 ++ dktX0_pane_1
theorem dksX0_pane_0 : cX0_pane.data.toList.drop 0 = dktX0_pane_0 := by decide +kernel
theorem dksX0_pane_1 : cX0_pane.data.toList.drop 24 = dktX0_pane_1 := dk_seg dksX0_pane_0 24 rfl rfl
theorem dksX0_pane_2 : cX0_pane.data.toList.drop 48 = dktX0_pane_2 := dk_seg dksX0_pane_1 24 rfl rfl
theorem dksX0_pane_3 : cX0_pane.data.toList.drop 72 = dktX0_pane_3 := dk_seg dksX0_pane_2 24 rfl rfl
theorem dX0_pane_0 : decode cX0_pane 0 = .ok (.iload_n 1, 1) := dk_27 (dk_at dksX0_pane_0 0 rfl rfl)
theorem dX0_pane_1 : decode cX0_pane 1 = .ok (.i2l, 1) := dk_133 (dk_at dksX0_pane_0 1 rfl rfl)
theorem dX0_pane_2 : decode cX0_pane 2 = .ok (.lconst 0, 1) := dk_9 (dk_at dksX0_pane_0 2 rfl rfl)
theorem dX0_pane_3 : decode cX0_pane 3 = .ok (.ldc2_w 43, 3) := dk_20 0 43 (dk_at dksX0_pane_0 3 rfl rfl)
theorem dX0_pane_6 : decode cX0_pane 6 = .ok (.invokestatic 14, 3) := dk_184 0 14 (dk_at dksX0_pane_0 6 rfl rfl)
theorem dX0_pane_9 : decode cX0_pane 9 = .ok (.ifCond .eq 27, 3) := dk_153 0 27 (dk_at dksX0_pane_0 9 rfl rfl)
theorem dX0_pane_12 : decode cX0_pane 12 = .ok (.iload_n 2, 1) := dk_28 (dk_at dksX0_pane_0 12 rfl rfl)
theorem dX0_pane_13 : decode cX0_pane 13 = .ok (.i2l, 1) := dk_133 (dk_at dksX0_pane_0 13 rfl rfl)
theorem dX0_pane_14 : decode cX0_pane 14 = .ok (.lconst 0, 1) := dk_9 (dk_at dksX0_pane_0 14 rfl rfl)
theorem dX0_pane_15 : decode cX0_pane 15 = .ok (.ldc2_w 45, 3) := dk_20 0 45 (dk_at dksX0_pane_0 15 rfl rfl)
theorem dX0_pane_18 : decode cX0_pane 18 = .ok (.invokestatic 14, 3) := dk_184 0 14 (dk_at dksX0_pane_0 18 rfl rfl)
theorem dX0_pane_21 : decode cX0_pane 21 = .ok (.ifCond .eq 15, 3) := dk_153 0 15 (dk_at dksX0_pane_0 21 rfl rfl)
theorem dX0_pane_24 : decode cX0_pane 24 = .ok (.iload_n 3, 1) := dk_29 (dk_at dksX0_pane_1 0 rfl rfl)
theorem dX0_pane_25 : decode cX0_pane 25 = .ok (.i2l, 1) := dk_133 (dk_at dksX0_pane_1 1 rfl rfl)
theorem dX0_pane_26 : decode cX0_pane 26 = .ok (.lconst 0, 1) := dk_9 (dk_at dksX0_pane_1 2 rfl rfl)
theorem dX0_pane_27 : decode cX0_pane 27 = .ok (.ldc2_w 47, 3) := dk_20 0 47 (dk_at dksX0_pane_1 3 rfl rfl)
theorem dX0_pane_30 : decode cX0_pane 30 = .ok (.invokestatic 14, 3) := dk_184 0 14 (dk_at dksX0_pane_1 6 rfl rfl)
theorem dX0_pane_33 : decode cX0_pane 33 = .ok (.ifCond .ne 6, 3) := dk_154 0 6 (dk_at dksX0_pane_1 9 rfl rfl)
theorem dX0_pane_36 : decode cX0_pane 36 = .ok (.bipush (-2), 2) := dk_16 254 (dk_at dksX0_pane_1 12 rfl rfl)
theorem dX0_pane_38 : decode cX0_pane 38 = .ok (.ireturn, 1) := dk_172 (dk_at dksX0_pane_1 14 rfl rfl)
theorem dX0_pane_39 : decode cX0_pane 39 = .ok (.aload_n 0, 1) := dk_42 (dk_at dksX0_pane_1 15 rfl rfl)
theorem dX0_pane_40 : decode cX0_pane 40 = .ok (.getfield 18, 3) := dk_180 0 18 (dk_at dksX0_pane_1 16 rfl rfl)
theorem dX0_pane_43 : decode cX0_pane 43 = .ok (.bipush 6, 2) := dk_16 6 (dk_at dksX0_pane_1 19 rfl rfl)
theorem dX0_pane_45 : decode cX0_pane 45 = .ok (.if_icmp .ne 6, 3) := dk_160 0 6 (dk_at dksX0_pane_1 21 rfl rfl)
theorem dX0_pane_48 : decode cX0_pane 48 = .ok (.bipush (-4), 2) := dk_16 252 (dk_at dksX0_pane_2 0 rfl rfl)
theorem dX0_pane_50 : decode cX0_pane 50 = .ok (.ireturn, 1) := dk_172 (dk_at dksX0_pane_2 2 rfl rfl)
theorem dX0_pane_51 : decode cX0_pane 51 = .ok (.aload_n 0, 1) := dk_42 (dk_at dksX0_pane_2 3 rfl rfl)
theorem dX0_pane_52 : decode cX0_pane 52 = .ok (.getfield 49, 3) := dk_180 0 49 (dk_at dksX0_pane_2 4 rfl rfl)
theorem dX0_pane_55 : decode cX0_pane 55 = .ok (.aload_n 0, 1) := dk_42 (dk_at dksX0_pane_2 7 rfl rfl)
theorem dX0_pane_56 : decode cX0_pane 56 = .ok (.getfield 18, 3) := dk_180 0 18 (dk_at dksX0_pane_2 8 rfl rfl)
theorem dX0_pane_59 : decode cX0_pane 59 = .ok (.iload_n 1, 1) := dk_27 (dk_at dksX0_pane_2 11 rfl rfl)
theorem dX0_pane_60 : decode cX0_pane 60 = .ok (.iload_n 2, 1) := dk_28 (dk_at dksX0_pane_2 12 rfl rfl)
theorem dX0_pane_61 : decode cX0_pane 61 = .ok (.iload_n 3, 1) := dk_29 (dk_at dksX0_pane_2 13 rfl rfl)
theorem dX0_pane_62 : decode cX0_pane 62 = .ok (.invokestatic 53, 3) := dk_184 0 53 (dk_at dksX0_pane_2 14 rfl rfl)
theorem dX0_pane_65 : decode cX0_pane 65 = .ok (.aastore, 1) := dk_83 (dk_at dksX0_pane_2 17 rfl rfl)
theorem dX0_pane_66 : decode cX0_pane 66 = .ok (.aload_n 0, 1) := dk_42 (dk_at dksX0_pane_2 18 rfl rfl)
theorem dX0_pane_67 : decode cX0_pane 67 = .ok (.dup, 1) := dk_89 (dk_at dksX0_pane_2 19 rfl rfl)
theorem dX0_pane_68 : decode cX0_pane 68 = .ok (.getfield 18, 3) := dk_180 0 18 (dk_at dksX0_pane_2 20 rfl rfl)
theorem dX0_pane_71 : decode cX0_pane 71 = .ok (.iconst 1, 1) := dk_4 (dk_at dksX0_pane_2 23 rfl rfl)
theorem dX0_pane_72 : decode cX0_pane 72 = .ok (.iadd, 1) := dk_96 (dk_at dksX0_pane_3 0 rfl rfl)
theorem dX0_pane_73 : decode cX0_pane 73 = .ok (.putfield 18, 3) := dk_181 0 18 (dk_at dksX0_pane_3 1 rfl rfl)
theorem dX0_pane_76 : decode cX0_pane 76 = .ok (.aload_n 0, 1) := dk_42 (dk_at dksX0_pane_3 4 rfl rfl)
theorem dX0_pane_77 : decode cX0_pane 77 = .ok (.getfield 18, 3) := dk_180 0 18 (dk_at dksX0_pane_3 5 rfl rfl)
theorem dX0_pane_80 : decode cX0_pane 80 = .ok (.iconst 1, 1) := dk_4 (dk_at dksX0_pane_3 8 rfl rfl)
theorem dX0_pane_81 : decode cX0_pane 81 = .ok (.isub, 1) := dk_100 (dk_at dksX0_pane_3 9 rfl rfl)
theorem dX0_pane_82 : decode cX0_pane 82 = .ok (.ireturn, 1) := dk_172 (dk_at dksX0_pane_3 10 rfl rfl)
abbrev cX0_in : ByteArray := prog_1_method_1_code
def yX0_in : MethodName := ⟨RX0, "in", "(JJJ)Z"⟩
def dkwX0_in_0 : List UInt8 := [30, 32, 148, 155, 0, 14, 30, 22, 4, 148, 157, 0, 7, 4, 167, 0, 4, 3, 172]
abbrev dktX0_in_0 : List UInt8 := dkwX0_in_0 ++ []
theorem dksX0_in_0 : cX0_in.data.toList.drop 0 = dktX0_in_0 := by decide +kernel
theorem dX0_in_0 : decode cX0_in 0 = .ok (.lload_n 0, 1) := dk_30 (dk_at dksX0_in_0 0 rfl rfl)
theorem dX0_in_1 : decode cX0_in 1 = .ok (.lload_n 2, 1) := dk_32 (dk_at dksX0_in_0 1 rfl rfl)
theorem dX0_in_2 : decode cX0_in 2 = .ok (.lcmp, 1) := dk_148 (dk_at dksX0_in_0 2 rfl rfl)
theorem dX0_in_3 : decode cX0_in 3 = .ok (.ifCond .lt 14, 3) := dk_155 0 14 (dk_at dksX0_in_0 3 rfl rfl)
theorem dX0_in_6 : decode cX0_in 6 = .ok (.lload_n 0, 1) := dk_30 (dk_at dksX0_in_0 6 rfl rfl)
theorem dX0_in_7 : decode cX0_in 7 = .ok (.lload 4, 2) := dk_22 4 (dk_at dksX0_in_0 7 rfl rfl)
theorem dX0_in_9 : decode cX0_in 9 = .ok (.lcmp, 1) := dk_148 (dk_at dksX0_in_0 9 rfl rfl)
theorem dX0_in_10 : decode cX0_in 10 = .ok (.ifCond .gt 7, 3) := dk_157 0 7 (dk_at dksX0_in_0 10 rfl rfl)
theorem dX0_in_13 : decode cX0_in 13 = .ok (.iconst 1, 1) := dk_4 (dk_at dksX0_in_0 13 rfl rfl)
theorem dX0_in_14 : decode cX0_in 14 = .ok (.goto 4, 3) := dk_167 0 4 (dk_at dksX0_in_0 14 rfl rfl)
theorem dX0_in_17 : decode cX0_in 17 = .ok (.iconst 0, 1) := dk_3 (dk_at dksX0_in_0 17 rfl rfl)
theorem dX0_in_18 : decode cX0_in 18 = .ok (.ireturn, 1) := dk_172 (dk_at dksX0_in_0 18 rfl rfl)
abbrev cX0_made : ByteArray := prog_1_method_5_code
def yX0_made : MethodName := ⟨RX0, "made", "(III)LPaneKeepsWeather$Pane;"⟩
def dkwX0_made_4 : List UInt8 := [183, 0, 39, 176, 187, 0, 40, 89, 27, 28, 183, 0, 42, 176]
abbrev dktX0_made_4 : List UInt8 := dkwX0_made_4 ++ []
def dkwX0_made_3 : List UInt8 := [27, 28, 183, 0, 33, 176, 187, 0, 34, 89, 27, 28, 183, 0, 36, 176, 187, 0, 37, 89, 27, 28]
abbrev dktX0_made_3 : List UInt8 := dkwX0_made_3 ++ dktX0_made_4
def dkwX0_made_2 : List UInt8 := [187, 0, 22, 89, 27, 28, 183, 0, 24, 176, 187, 0, 28, 89, 27, 28, 183, 0, 30, 176, 187, 0, 31, 89]
abbrev dktX0_made_2 : List UInt8 := dkwX0_made_2 ++ dktX0_made_3
def dkwX0_made_1 : List UInt8 := [170, 0, 0, 0, 0, 0, 85, 0, 0, 0, 1, 0, 0, 0, 5, 0, 0, 0, 35, 0, 0, 0, 45, 0, 0, 0, 55, 0, 0, 0, 65, 0, 0, 0, 75]
abbrev dktX0_made_1 : List UInt8 := dkwX0_made_1 ++ dktX0_made_2
def dkwX0_made_0 : List UInt8 := [26]
abbrev dktX0_made_0 : List UInt8 := dkwX0_made_0 ++ dktX0_made_1
theorem dksX0_made_0 : cX0_made.data.toList.drop 0 = dktX0_made_0 := by decide +kernel
theorem dksX0_made_1 : cX0_made.data.toList.drop 1 = dktX0_made_1 := dk_seg dksX0_made_0 1 rfl rfl
theorem dksX0_made_2 : cX0_made.data.toList.drop 36 = dktX0_made_2 := dk_seg dksX0_made_1 35 rfl rfl
theorem dksX0_made_3 : cX0_made.data.toList.drop 60 = dktX0_made_3 := dk_seg dksX0_made_2 24 rfl rfl
theorem dksX0_made_4 : cX0_made.data.toList.drop 82 = dktX0_made_4 := dk_seg dksX0_made_3 22 rfl rfl
theorem dX0_made_0 : decode cX0_made 0 = .ok (.iload_n 0, 1) := dk_26 (dk_at dksX0_made_0 0 rfl rfl)
theorem dX0_made_1 : decode cX0_made 1 = .ok (.tableswitch 85 1 5 #[35, 45, 55, 65, 75], 35) := by decide +kernel
theorem dX0_made_36 : decode cX0_made 36 = .ok (.new 22, 3) := dk_187 0 22 (dk_at dksX0_made_2 0 rfl rfl)
theorem dX0_made_39 : decode cX0_made 39 = .ok (.dup, 1) := dk_89 (dk_at dksX0_made_2 3 rfl rfl)
theorem dX0_made_40 : decode cX0_made 40 = .ok (.iload_n 1, 1) := dk_27 (dk_at dksX0_made_2 4 rfl rfl)
theorem dX0_made_41 : decode cX0_made 41 = .ok (.iload_n 2, 1) := dk_28 (dk_at dksX0_made_2 5 rfl rfl)
theorem dX0_made_42 : decode cX0_made 42 = .ok (.invokespecial 24, 3) := dk_183 0 24 (dk_at dksX0_made_2 6 rfl rfl)
theorem dX0_made_45 : decode cX0_made 45 = .ok (.areturn, 1) := dk_176 (dk_at dksX0_made_2 9 rfl rfl)
theorem dX0_made_46 : decode cX0_made 46 = .ok (.new 28, 3) := dk_187 0 28 (dk_at dksX0_made_2 10 rfl rfl)
theorem dX0_made_49 : decode cX0_made 49 = .ok (.dup, 1) := dk_89 (dk_at dksX0_made_2 13 rfl rfl)
theorem dX0_made_50 : decode cX0_made 50 = .ok (.iload_n 1, 1) := dk_27 (dk_at dksX0_made_2 14 rfl rfl)
theorem dX0_made_51 : decode cX0_made 51 = .ok (.iload_n 2, 1) := dk_28 (dk_at dksX0_made_2 15 rfl rfl)
theorem dX0_made_52 : decode cX0_made 52 = .ok (.invokespecial 30, 3) := dk_183 0 30 (dk_at dksX0_made_2 16 rfl rfl)
theorem dX0_made_55 : decode cX0_made 55 = .ok (.areturn, 1) := dk_176 (dk_at dksX0_made_2 19 rfl rfl)
theorem dX0_made_56 : decode cX0_made 56 = .ok (.new 31, 3) := dk_187 0 31 (dk_at dksX0_made_2 20 rfl rfl)
theorem dX0_made_59 : decode cX0_made 59 = .ok (.dup, 1) := dk_89 (dk_at dksX0_made_2 23 rfl rfl)
theorem dX0_made_60 : decode cX0_made 60 = .ok (.iload_n 1, 1) := dk_27 (dk_at dksX0_made_3 0 rfl rfl)
theorem dX0_made_61 : decode cX0_made 61 = .ok (.iload_n 2, 1) := dk_28 (dk_at dksX0_made_3 1 rfl rfl)
theorem dX0_made_62 : decode cX0_made 62 = .ok (.invokespecial 33, 3) := dk_183 0 33 (dk_at dksX0_made_3 2 rfl rfl)
theorem dX0_made_65 : decode cX0_made 65 = .ok (.areturn, 1) := dk_176 (dk_at dksX0_made_3 5 rfl rfl)
theorem dX0_made_66 : decode cX0_made 66 = .ok (.new 34, 3) := dk_187 0 34 (dk_at dksX0_made_3 6 rfl rfl)
theorem dX0_made_69 : decode cX0_made 69 = .ok (.dup, 1) := dk_89 (dk_at dksX0_made_3 9 rfl rfl)
theorem dX0_made_70 : decode cX0_made 70 = .ok (.iload_n 1, 1) := dk_27 (dk_at dksX0_made_3 10 rfl rfl)
theorem dX0_made_71 : decode cX0_made 71 = .ok (.iload_n 2, 1) := dk_28 (dk_at dksX0_made_3 11 rfl rfl)
theorem dX0_made_72 : decode cX0_made 72 = .ok (.invokespecial 36, 3) := dk_183 0 36 (dk_at dksX0_made_3 12 rfl rfl)
theorem dX0_made_75 : decode cX0_made 75 = .ok (.areturn, 1) := dk_176 (dk_at dksX0_made_3 15 rfl rfl)
theorem dX0_made_76 : decode cX0_made 76 = .ok (.new 37, 3) := dk_187 0 37 (dk_at dksX0_made_3 16 rfl rfl)
theorem dX0_made_79 : decode cX0_made 79 = .ok (.dup, 1) := dk_89 (dk_at dksX0_made_3 19 rfl rfl)
theorem dX0_made_80 : decode cX0_made 80 = .ok (.iload_n 1, 1) := dk_27 (dk_at dksX0_made_3 20 rfl rfl)
theorem dX0_made_81 : decode cX0_made 81 = .ok (.iload_n 2, 1) := dk_28 (dk_at dksX0_made_3 21 rfl rfl)
theorem dX0_made_82 : decode cX0_made 82 = .ok (.invokespecial 39, 3) := dk_183 0 39 (dk_at dksX0_made_4 0 rfl rfl)
theorem dX0_made_85 : decode cX0_made 85 = .ok (.areturn, 1) := dk_176 (dk_at dksX0_made_4 3 rfl rfl)
theorem dX0_made_86 : decode cX0_made 86 = .ok (.new 40, 3) := dk_187 0 40 (dk_at dksX0_made_4 4 rfl rfl)
theorem dX0_made_89 : decode cX0_made 89 = .ok (.dup, 1) := dk_89 (dk_at dksX0_made_4 7 rfl rfl)
theorem dX0_made_90 : decode cX0_made 90 = .ok (.iload_n 1, 1) := dk_27 (dk_at dksX0_made_4 8 rfl rfl)
theorem dX0_made_91 : decode cX0_made 91 = .ok (.iload_n 2, 1) := dk_28 (dk_at dksX0_made_4 9 rfl rfl)
theorem dX0_made_92 : decode cX0_made 92 = .ok (.invokespecial 42, 3) := dk_183 0 42 (dk_at dksX0_made_4 10 rfl rfl)
theorem dX0_made_95 : decode cX0_made 95 = .ok (.areturn, 1) := dk_176 (dk_at dksX0_made_4 13 rfl rfl)
abbrev cX0_set : ByteArray := prog_1_method_9_code
def yX0_set : MethodName := ⟨RX0, "set", "(III)I"⟩
def dkwX0_set_1 : List UInt8 := [29, 182, 0, 91, 21, 4, 172]
abbrev dktX0_set_1 : List UInt8 := dkwX0_set_1 ++ []
def dkwX0_set_0 : List UInt8 := [42, 27, 28, 29, 182, 0, 84, 154, 0, 6, 16, 254, 172, 42, 28, 27, 182, 0, 88, 54, 4, 42, 27, 28]
abbrev dktX0_set_0 : List UInt8 := dkwX0_set_0 ++ dktX0_set_1
theorem dksX0_set_0 : cX0_set.data.toList.drop 0 = dktX0_set_0 := by decide +kernel
theorem dksX0_set_1 : cX0_set.data.toList.drop 24 = dktX0_set_1 := dk_seg dksX0_set_0 24 rfl rfl
theorem dX0_set_0 : decode cX0_set 0 = .ok (.aload_n 0, 1) := dk_42 (dk_at dksX0_set_0 0 rfl rfl)
theorem dX0_set_1 : decode cX0_set 1 = .ok (.iload_n 1, 1) := dk_27 (dk_at dksX0_set_0 1 rfl rfl)
theorem dX0_set_2 : decode cX0_set 2 = .ok (.iload_n 2, 1) := dk_28 (dk_at dksX0_set_0 2 rfl rfl)
theorem dX0_set_3 : decode cX0_set 3 = .ok (.iload_n 3, 1) := dk_29 (dk_at dksX0_set_0 3 rfl rfl)
theorem dX0_set_4 : decode cX0_set 4 = .ok (.invokevirtual 84, 3) := dk_182 0 84 (dk_at dksX0_set_0 4 rfl rfl)
theorem dX0_set_7 : decode cX0_set 7 = .ok (.ifCond .ne 6, 3) := dk_154 0 6 (dk_at dksX0_set_0 7 rfl rfl)
theorem dX0_set_10 : decode cX0_set 10 = .ok (.bipush (-2), 2) := dk_16 254 (dk_at dksX0_set_0 10 rfl rfl)
theorem dX0_set_12 : decode cX0_set 12 = .ok (.ireturn, 1) := dk_172 (dk_at dksX0_set_0 12 rfl rfl)
theorem dX0_set_13 : decode cX0_set 13 = .ok (.aload_n 0, 1) := dk_42 (dk_at dksX0_set_0 13 rfl rfl)
theorem dX0_set_14 : decode cX0_set 14 = .ok (.iload_n 2, 1) := dk_28 (dk_at dksX0_set_0 14 rfl rfl)
theorem dX0_set_15 : decode cX0_set 15 = .ok (.iload_n 1, 1) := dk_27 (dk_at dksX0_set_0 15 rfl rfl)
theorem dX0_set_16 : decode cX0_set 16 = .ok (.invokevirtual 88, 3) := dk_182 0 88 (dk_at dksX0_set_0 16 rfl rfl)
theorem dX0_set_19 : decode cX0_set 19 = .ok (.istore 4, 2) := dk_54 4 (dk_at dksX0_set_0 19 rfl rfl)
theorem dX0_set_21 : decode cX0_set 21 = .ok (.aload_n 0, 1) := dk_42 (dk_at dksX0_set_0 21 rfl rfl)
theorem dX0_set_22 : decode cX0_set 22 = .ok (.iload_n 1, 1) := dk_27 (dk_at dksX0_set_0 22 rfl rfl)
theorem dX0_set_23 : decode cX0_set 23 = .ok (.iload_n 2, 1) := dk_28 (dk_at dksX0_set_0 23 rfl rfl)
theorem dX0_set_24 : decode cX0_set 24 = .ok (.iload_n 3, 1) := dk_29 (dk_at dksX0_set_1 0 rfl rfl)
theorem dX0_set_25 : decode cX0_set 25 = .ok (.invokevirtual 91, 3) := dk_182 0 91 (dk_at dksX0_set_1 1 rfl rfl)
theorem dX0_set_28 : decode cX0_set 28 = .ok (.iload 4, 2) := dk_21 4 (dk_at dksX0_set_1 4 rfl rfl)
theorem dX0_set_30 : decode cX0_set 30 = .ok (.ireturn, 1) := dk_172 (dk_at dksX0_set_1 6 rfl rfl)
abbrev cX0_isSo : ByteArray := prog_1_method_7_code
def yX0_isSo : MethodName := ⟨RX0, "isSo", "(III)Z"⟩
def dkwX0_isSo_6 : List UInt8 := [182, 0, 65, 153, 0, 19, 29, 133, 9, 20, 0, 45, 184, 0, 14, 153, 0, 7, 4, 167, 0, 4, 3, 172]
abbrev dktX0_isSo_6 : List UInt8 := dkwX0_isSo_6 ++ []
def dkwX0_isSo_5 : List UInt8 := [133, 9, 20, 0, 47, 184, 0, 14, 153, 0, 7, 4, 167, 0, 4, 3, 172, 27, 7, 160, 0, 27, 42, 28]
abbrev dktX0_isSo_5 : List UInt8 := dkwX0_isSo_5 ++ dktX0_isSo_6
def dkwX0_isSo_4 : List UInt8 := [20, 0, 45, 184, 0, 14, 153, 0, 7, 4, 167, 0, 4, 3, 172, 42, 28, 182, 0, 65, 153, 0, 19, 29]
abbrev dktX0_isSo_4 : List UInt8 := dkwX0_isSo_4 ++ dktX0_isSo_5
def dkwX0_isSo_3 : List UInt8 := [184, 0, 14, 153, 0, 7, 4, 167, 0, 4, 3, 172, 42, 28, 182, 0, 65, 153, 0, 19, 29, 133, 9]
abbrev dktX0_isSo_3 : List UInt8 := dkwX0_isSo_3 ++ dktX0_isSo_4
def dkwX0_isSo_2 : List UInt8 := [29, 133, 9, 20, 0, 57, 184, 0, 14, 172, 28, 184, 0, 59, 153, 0, 19, 29, 133, 9, 20, 0, 63]
abbrev dktX0_isSo_2 : List UInt8 := dkwX0_isSo_2 ++ dktX0_isSo_3
def dkwX0_isSo_1 : List UInt8 := [170, 0, 0, 0, 0, 0, 118, 0, 0, 0, 0, 0, 0, 0, 3, 0, 0, 0, 31, 0, 0, 0, 41, 0, 0, 0, 66, 0, 0, 0, 92]
abbrev dktX0_isSo_1 : List UInt8 := dkwX0_isSo_1 ++ dktX0_isSo_2
def dkwX0_isSo_0 : List UInt8 := [27]
abbrev dktX0_isSo_0 : List UInt8 := dkwX0_isSo_0 ++ dktX0_isSo_1
theorem dksX0_isSo_0 : cX0_isSo.data.toList.drop 0 = dktX0_isSo_0 := by decide +kernel
theorem dksX0_isSo_1 : cX0_isSo.data.toList.drop 1 = dktX0_isSo_1 := dk_seg dksX0_isSo_0 1 rfl rfl
theorem dksX0_isSo_2 : cX0_isSo.data.toList.drop 32 = dktX0_isSo_2 := dk_seg dksX0_isSo_1 31 rfl rfl
theorem dksX0_isSo_3 : cX0_isSo.data.toList.drop 55 = dktX0_isSo_3 := dk_seg dksX0_isSo_2 23 rfl rfl
theorem dksX0_isSo_4 : cX0_isSo.data.toList.drop 78 = dktX0_isSo_4 := dk_seg dksX0_isSo_3 23 rfl rfl
theorem dksX0_isSo_5 : cX0_isSo.data.toList.drop 102 = dktX0_isSo_5 := dk_seg dksX0_isSo_4 24 rfl rfl
theorem dksX0_isSo_6 : cX0_isSo.data.toList.drop 126 = dktX0_isSo_6 := dk_seg dksX0_isSo_5 24 rfl rfl
theorem dX0_isSo_0 : decode cX0_isSo 0 = .ok (.iload_n 1, 1) := dk_27 (dk_at dksX0_isSo_0 0 rfl rfl)
theorem dX0_isSo_1 : decode cX0_isSo 1 = .ok (.tableswitch 118 0 3 #[31, 41, 66, 92], 31) := by decide +kernel
theorem dX0_isSo_32 : decode cX0_isSo 32 = .ok (.iload_n 3, 1) := dk_29 (dk_at dksX0_isSo_2 0 rfl rfl)
theorem dX0_isSo_33 : decode cX0_isSo 33 = .ok (.i2l, 1) := dk_133 (dk_at dksX0_isSo_2 1 rfl rfl)
theorem dX0_isSo_34 : decode cX0_isSo 34 = .ok (.lconst 0, 1) := dk_9 (dk_at dksX0_isSo_2 2 rfl rfl)
theorem dX0_isSo_35 : decode cX0_isSo 35 = .ok (.ldc2_w 57, 3) := dk_20 0 57 (dk_at dksX0_isSo_2 3 rfl rfl)
theorem dX0_isSo_38 : decode cX0_isSo 38 = .ok (.invokestatic 14, 3) := dk_184 0 14 (dk_at dksX0_isSo_2 6 rfl rfl)
theorem dX0_isSo_41 : decode cX0_isSo 41 = .ok (.ireturn, 1) := dk_172 (dk_at dksX0_isSo_2 9 rfl rfl)
theorem dX0_isSo_42 : decode cX0_isSo 42 = .ok (.iload_n 2, 1) := dk_28 (dk_at dksX0_isSo_2 10 rfl rfl)
theorem dX0_isSo_43 : decode cX0_isSo 43 = .ok (.invokestatic 59, 3) := dk_184 0 59 (dk_at dksX0_isSo_2 11 rfl rfl)
theorem dX0_isSo_46 : decode cX0_isSo 46 = .ok (.ifCond .eq 19, 3) := dk_153 0 19 (dk_at dksX0_isSo_2 14 rfl rfl)
theorem dX0_isSo_49 : decode cX0_isSo 49 = .ok (.iload_n 3, 1) := dk_29 (dk_at dksX0_isSo_2 17 rfl rfl)
theorem dX0_isSo_50 : decode cX0_isSo 50 = .ok (.i2l, 1) := dk_133 (dk_at dksX0_isSo_2 18 rfl rfl)
theorem dX0_isSo_51 : decode cX0_isSo 51 = .ok (.lconst 0, 1) := dk_9 (dk_at dksX0_isSo_2 19 rfl rfl)
theorem dX0_isSo_52 : decode cX0_isSo 52 = .ok (.ldc2_w 63, 3) := dk_20 0 63 (dk_at dksX0_isSo_2 20 rfl rfl)
theorem dX0_isSo_55 : decode cX0_isSo 55 = .ok (.invokestatic 14, 3) := dk_184 0 14 (dk_at dksX0_isSo_3 0 rfl rfl)
theorem dX0_isSo_58 : decode cX0_isSo 58 = .ok (.ifCond .eq 7, 3) := dk_153 0 7 (dk_at dksX0_isSo_3 3 rfl rfl)
theorem dX0_isSo_61 : decode cX0_isSo 61 = .ok (.iconst 1, 1) := dk_4 (dk_at dksX0_isSo_3 6 rfl rfl)
theorem dX0_isSo_62 : decode cX0_isSo 62 = .ok (.goto 4, 3) := dk_167 0 4 (dk_at dksX0_isSo_3 7 rfl rfl)
theorem dX0_isSo_65 : decode cX0_isSo 65 = .ok (.iconst 0, 1) := dk_3 (dk_at dksX0_isSo_3 10 rfl rfl)
theorem dX0_isSo_66 : decode cX0_isSo 66 = .ok (.ireturn, 1) := dk_172 (dk_at dksX0_isSo_3 11 rfl rfl)
theorem dX0_isSo_67 : decode cX0_isSo 67 = .ok (.aload_n 0, 1) := dk_42 (dk_at dksX0_isSo_3 12 rfl rfl)
theorem dX0_isSo_68 : decode cX0_isSo 68 = .ok (.iload_n 2, 1) := dk_28 (dk_at dksX0_isSo_3 13 rfl rfl)
theorem dX0_isSo_69 : decode cX0_isSo 69 = .ok (.invokevirtual 65, 3) := dk_182 0 65 (dk_at dksX0_isSo_3 14 rfl rfl)
theorem dX0_isSo_72 : decode cX0_isSo 72 = .ok (.ifCond .eq 19, 3) := dk_153 0 19 (dk_at dksX0_isSo_3 17 rfl rfl)
theorem dX0_isSo_75 : decode cX0_isSo 75 = .ok (.iload_n 3, 1) := dk_29 (dk_at dksX0_isSo_3 20 rfl rfl)
theorem dX0_isSo_76 : decode cX0_isSo 76 = .ok (.i2l, 1) := dk_133 (dk_at dksX0_isSo_3 21 rfl rfl)
theorem dX0_isSo_77 : decode cX0_isSo 77 = .ok (.lconst 0, 1) := dk_9 (dk_at dksX0_isSo_3 22 rfl rfl)
theorem dX0_isSo_78 : decode cX0_isSo 78 = .ok (.ldc2_w 45, 3) := dk_20 0 45 (dk_at dksX0_isSo_4 0 rfl rfl)
theorem dX0_isSo_81 : decode cX0_isSo 81 = .ok (.invokestatic 14, 3) := dk_184 0 14 (dk_at dksX0_isSo_4 3 rfl rfl)
theorem dX0_isSo_84 : decode cX0_isSo 84 = .ok (.ifCond .eq 7, 3) := dk_153 0 7 (dk_at dksX0_isSo_4 6 rfl rfl)
theorem dX0_isSo_87 : decode cX0_isSo 87 = .ok (.iconst 1, 1) := dk_4 (dk_at dksX0_isSo_4 9 rfl rfl)
theorem dX0_isSo_88 : decode cX0_isSo 88 = .ok (.goto 4, 3) := dk_167 0 4 (dk_at dksX0_isSo_4 10 rfl rfl)
theorem dX0_isSo_91 : decode cX0_isSo 91 = .ok (.iconst 0, 1) := dk_3 (dk_at dksX0_isSo_4 13 rfl rfl)
theorem dX0_isSo_92 : decode cX0_isSo 92 = .ok (.ireturn, 1) := dk_172 (dk_at dksX0_isSo_4 14 rfl rfl)
theorem dX0_isSo_93 : decode cX0_isSo 93 = .ok (.aload_n 0, 1) := dk_42 (dk_at dksX0_isSo_4 15 rfl rfl)
theorem dX0_isSo_94 : decode cX0_isSo 94 = .ok (.iload_n 2, 1) := dk_28 (dk_at dksX0_isSo_4 16 rfl rfl)
theorem dX0_isSo_95 : decode cX0_isSo 95 = .ok (.invokevirtual 65, 3) := dk_182 0 65 (dk_at dksX0_isSo_4 17 rfl rfl)
theorem dX0_isSo_98 : decode cX0_isSo 98 = .ok (.ifCond .eq 19, 3) := dk_153 0 19 (dk_at dksX0_isSo_4 20 rfl rfl)
theorem dX0_isSo_101 : decode cX0_isSo 101 = .ok (.iload_n 3, 1) := dk_29 (dk_at dksX0_isSo_4 23 rfl rfl)
theorem dX0_isSo_102 : decode cX0_isSo 102 = .ok (.i2l, 1) := dk_133 (dk_at dksX0_isSo_5 0 rfl rfl)
theorem dX0_isSo_103 : decode cX0_isSo 103 = .ok (.lconst 0, 1) := dk_9 (dk_at dksX0_isSo_5 1 rfl rfl)
theorem dX0_isSo_104 : decode cX0_isSo 104 = .ok (.ldc2_w 47, 3) := dk_20 0 47 (dk_at dksX0_isSo_5 2 rfl rfl)
theorem dX0_isSo_107 : decode cX0_isSo 107 = .ok (.invokestatic 14, 3) := dk_184 0 14 (dk_at dksX0_isSo_5 5 rfl rfl)
theorem dX0_isSo_110 : decode cX0_isSo 110 = .ok (.ifCond .eq 7, 3) := dk_153 0 7 (dk_at dksX0_isSo_5 8 rfl rfl)
theorem dX0_isSo_113 : decode cX0_isSo 113 = .ok (.iconst 1, 1) := dk_4 (dk_at dksX0_isSo_5 11 rfl rfl)
theorem dX0_isSo_114 : decode cX0_isSo 114 = .ok (.goto 4, 3) := dk_167 0 4 (dk_at dksX0_isSo_5 12 rfl rfl)
theorem dX0_isSo_117 : decode cX0_isSo 117 = .ok (.iconst 0, 1) := dk_3 (dk_at dksX0_isSo_5 15 rfl rfl)
theorem dX0_isSo_118 : decode cX0_isSo 118 = .ok (.ireturn, 1) := dk_172 (dk_at dksX0_isSo_5 16 rfl rfl)
theorem dX0_isSo_119 : decode cX0_isSo 119 = .ok (.iload_n 1, 1) := dk_27 (dk_at dksX0_isSo_5 17 rfl rfl)
theorem dX0_isSo_120 : decode cX0_isSo 120 = .ok (.iconst 4, 1) := dk_7 (dk_at dksX0_isSo_5 18 rfl rfl)
theorem dX0_isSo_121 : decode cX0_isSo 121 = .ok (.if_icmp .ne 27, 3) := dk_160 0 27 (dk_at dksX0_isSo_5 19 rfl rfl)
theorem dX0_isSo_124 : decode cX0_isSo 124 = .ok (.aload_n 0, 1) := dk_42 (dk_at dksX0_isSo_5 22 rfl rfl)
theorem dX0_isSo_125 : decode cX0_isSo 125 = .ok (.iload_n 2, 1) := dk_28 (dk_at dksX0_isSo_5 23 rfl rfl)
theorem dX0_isSo_126 : decode cX0_isSo 126 = .ok (.invokevirtual 65, 3) := dk_182 0 65 (dk_at dksX0_isSo_6 0 rfl rfl)
theorem dX0_isSo_129 : decode cX0_isSo 129 = .ok (.ifCond .eq 19, 3) := dk_153 0 19 (dk_at dksX0_isSo_6 3 rfl rfl)
theorem dX0_isSo_132 : decode cX0_isSo 132 = .ok (.iload_n 3, 1) := dk_29 (dk_at dksX0_isSo_6 6 rfl rfl)
theorem dX0_isSo_133 : decode cX0_isSo 133 = .ok (.i2l, 1) := dk_133 (dk_at dksX0_isSo_6 7 rfl rfl)
theorem dX0_isSo_134 : decode cX0_isSo 134 = .ok (.lconst 0, 1) := dk_9 (dk_at dksX0_isSo_6 8 rfl rfl)
theorem dX0_isSo_135 : decode cX0_isSo 135 = .ok (.ldc2_w 45, 3) := dk_20 0 45 (dk_at dksX0_isSo_6 9 rfl rfl)
theorem dX0_isSo_138 : decode cX0_isSo 138 = .ok (.invokestatic 14, 3) := dk_184 0 14 (dk_at dksX0_isSo_6 12 rfl rfl)
theorem dX0_isSo_141 : decode cX0_isSo 141 = .ok (.ifCond .eq 7, 3) := dk_153 0 7 (dk_at dksX0_isSo_6 15 rfl rfl)
theorem dX0_isSo_144 : decode cX0_isSo 144 = .ok (.iconst 1, 1) := dk_4 (dk_at dksX0_isSo_6 18 rfl rfl)
theorem dX0_isSo_145 : decode cX0_isSo 145 = .ok (.goto 4, 3) := dk_167 0 4 (dk_at dksX0_isSo_6 19 rfl rfl)
theorem dX0_isSo_148 : decode cX0_isSo 148 = .ok (.iconst 0, 1) := dk_3 (dk_at dksX0_isSo_6 22 rfl rfl)
theorem dX0_isSo_149 : decode cX0_isSo 149 = .ok (.ireturn, 1) := dk_172 (dk_at dksX0_isSo_6 23 rfl rfl)
abbrev cX0_isOpening : ByteArray := prog_1_method_3_code
def yX0_isOpening : MethodName := ⟨RX0, "isOpening", "(I)Z"⟩
def dkwX0_isOpening_0 : List UInt8 := [26, 133, 9, 20, 0, 12, 184, 0, 14, 172]
abbrev dktX0_isOpening_0 : List UInt8 := dkwX0_isOpening_0 ++ []
theorem dksX0_isOpening_0 : cX0_isOpening.data.toList.drop 0 = dktX0_isOpening_0 := by decide +kernel
theorem dX0_isOpening_0 : decode cX0_isOpening 0 = .ok (.iload_n 0, 1) := dk_26 (dk_at dksX0_isOpening_0 0 rfl rfl)
theorem dX0_isOpening_1 : decode cX0_isOpening 1 = .ok (.i2l, 1) := dk_133 (dk_at dksX0_isOpening_0 1 rfl rfl)
theorem dX0_isOpening_2 : decode cX0_isOpening 2 = .ok (.lconst 0, 1) := dk_9 (dk_at dksX0_isOpening_0 2 rfl rfl)
theorem dX0_isOpening_3 : decode cX0_isOpening 3 = .ok (.ldc2_w 12, 3) := dk_20 0 12 (dk_at dksX0_isOpening_0 3 rfl rfl)
theorem dX0_isOpening_6 : decode cX0_isOpening 6 = .ok (.invokestatic 14, 3) := dk_184 0 14 (dk_at dksX0_isOpening_0 6 rfl rfl)
theorem dX0_isOpening_9 : decode cX0_isOpening 9 = .ok (.ireturn, 1) := dk_172 (dk_at dksX0_isOpening_0 9 rfl rfl)
abbrev cX0_isPane : ByteArray := prog_1_method_4_code
def yX0_isPane : MethodName := ⟨RX0, "isPane", "(I)Z"⟩
def dkwX0_isPane_0 : List UInt8 := [27, 133, 9, 42, 180, 0, 18, 4, 100, 133, 184, 0, 14, 172]
abbrev dktX0_isPane_0 : List UInt8 := dkwX0_isPane_0 ++ []
theorem dksX0_isPane_0 : cX0_isPane.data.toList.drop 0 = dktX0_isPane_0 := by decide +kernel
theorem dX0_isPane_0 : decode cX0_isPane 0 = .ok (.iload_n 1, 1) := dk_27 (dk_at dksX0_isPane_0 0 rfl rfl)
theorem dX0_isPane_1 : decode cX0_isPane 1 = .ok (.i2l, 1) := dk_133 (dk_at dksX0_isPane_0 1 rfl rfl)
theorem dX0_isPane_2 : decode cX0_isPane 2 = .ok (.lconst 0, 1) := dk_9 (dk_at dksX0_isPane_0 2 rfl rfl)
theorem dX0_isPane_3 : decode cX0_isPane 3 = .ok (.aload_n 0, 1) := dk_42 (dk_at dksX0_isPane_0 3 rfl rfl)
theorem dX0_isPane_4 : decode cX0_isPane 4 = .ok (.getfield 18, 3) := dk_180 0 18 (dk_at dksX0_isPane_0 4 rfl rfl)
theorem dX0_isPane_7 : decode cX0_isPane 7 = .ok (.iconst 1, 1) := dk_4 (dk_at dksX0_isPane_0 7 rfl rfl)
theorem dX0_isPane_8 : decode cX0_isPane 8 = .ok (.isub, 1) := dk_100 (dk_at dksX0_isPane_0 8 rfl rfl)
theorem dX0_isPane_9 : decode cX0_isPane 9 = .ok (.i2l, 1) := dk_133 (dk_at dksX0_isPane_0 9 rfl rfl)
theorem dX0_isPane_10 : decode cX0_isPane 10 = .ok (.invokestatic 14, 3) := dk_184 0 14 (dk_at dksX0_isPane_0 10 rfl rfl)
theorem dX0_isPane_13 : decode cX0_isPane 13 = .ok (.ireturn, 1) := dk_172 (dk_at dksX0_isPane_0 13 rfl rfl)
abbrev cX0_told : ByteArray := prog_1_method_15_code
def yX0_told : MethodName := ⟨RX0, "told", "(II)I"⟩
def dkwX0_told_6 : List UInt8 := [16, 254, 172]
abbrev dktX0_told_6 : List UInt8 := dkwX0_told_6 ++ []
def dkwX0_told_5 : List UInt8 := [184, 0, 14, 153, 0, 20, 42, 27, 182, 0, 65, 153, 0, 12, 42, 27, 28, 182, 0, 127, 167, 0, 5]
abbrev dktX0_told_5 : List UInt8 := dkwX0_told_5 ++ dktX0_told_6
def dkwX0_told_4 : List UInt8 := [153, 0, 11, 42, 27, 182, 0, 122, 167, 0, 5, 16, 254, 172, 28, 133, 20, 0, 125, 20, 0, 45]
abbrev dktX0_told_4 : List UInt8 := dkwX0_told_4 ++ dktX0_told_5
def dkwX0_told_3 : List UInt8 := [27, 184, 0, 59, 153, 0, 11, 42, 27, 182, 0, 102, 167, 0, 5, 16, 254, 172, 27, 184, 0, 59]
abbrev dktX0_told_3 : List UInt8 := dkwX0_told_3 ++ dktX0_told_4
def dkwX0_told_2 : List UInt8 := [42, 180, 0, 68, 172, 27, 184, 0, 59, 153, 0, 12, 42, 180, 0, 71, 27, 46, 167, 0, 5, 16, 254, 172]
abbrev dktX0_told_2 : List UInt8 := dkwX0_told_2 ++ dktX0_told_3
def dkwX0_told_1 : List UInt8 := [171, 0, 0, 0, 0, 0, 103, 0, 0, 0, 4, 0, 0, 0, 0, 0, 0, 0, 43, 0, 0, 0, 1, 0, 0, 0, 48, 0, 0, 0, 10, 0, 0, 0, 67, 0, 0, 0, 11, 0, 0, 0, 85]
abbrev dktX0_told_1 : List UInt8 := dkwX0_told_1 ++ dktX0_told_2
def dkwX0_told_0 : List UInt8 := [28]
abbrev dktX0_told_0 : List UInt8 := dkwX0_told_0 ++ dktX0_told_1
theorem dksX0_told_0 : cX0_told.data.toList.drop 0 = dktX0_told_0 := by decide +kernel
theorem dksX0_told_1 : cX0_told.data.toList.drop 1 = dktX0_told_1 := dk_seg dksX0_told_0 1 rfl rfl
theorem dksX0_told_2 : cX0_told.data.toList.drop 44 = dktX0_told_2 := dk_seg dksX0_told_1 43 rfl rfl
theorem dksX0_told_3 : cX0_told.data.toList.drop 68 = dktX0_told_3 := dk_seg dksX0_told_2 24 rfl rfl
theorem dksX0_told_4 : cX0_told.data.toList.drop 90 = dktX0_told_4 := dk_seg dksX0_told_3 22 rfl rfl
theorem dksX0_told_5 : cX0_told.data.toList.drop 112 = dktX0_told_5 := dk_seg dksX0_told_4 22 rfl rfl
theorem dksX0_told_6 : cX0_told.data.toList.drop 135 = dktX0_told_6 := dk_seg dksX0_told_5 23 rfl rfl
theorem dX0_told_0 : decode cX0_told 0 = .ok (.iload_n 2, 1) := dk_28 (dk_at dksX0_told_0 0 rfl rfl)
theorem dX0_told_1 : decode cX0_told 1 = .ok (.lookupswitch 103 #[(0, 43), (1, 48), (10, 67), (11, 85)], 43) := by decide +kernel
theorem dX0_told_44 : decode cX0_told 44 = .ok (.aload_n 0, 1) := dk_42 (dk_at dksX0_told_2 0 rfl rfl)
theorem dX0_told_45 : decode cX0_told 45 = .ok (.getfield 68, 3) := dk_180 0 68 (dk_at dksX0_told_2 1 rfl rfl)
theorem dX0_told_48 : decode cX0_told 48 = .ok (.ireturn, 1) := dk_172 (dk_at dksX0_told_2 4 rfl rfl)
theorem dX0_told_49 : decode cX0_told 49 = .ok (.iload_n 1, 1) := dk_27 (dk_at dksX0_told_2 5 rfl rfl)
theorem dX0_told_50 : decode cX0_told 50 = .ok (.invokestatic 59, 3) := dk_184 0 59 (dk_at dksX0_told_2 6 rfl rfl)
theorem dX0_told_53 : decode cX0_told 53 = .ok (.ifCond .eq 12, 3) := dk_153 0 12 (dk_at dksX0_told_2 9 rfl rfl)
theorem dX0_told_56 : decode cX0_told 56 = .ok (.aload_n 0, 1) := dk_42 (dk_at dksX0_told_2 12 rfl rfl)
theorem dX0_told_57 : decode cX0_told 57 = .ok (.getfield 71, 3) := dk_180 0 71 (dk_at dksX0_told_2 13 rfl rfl)
theorem dX0_told_60 : decode cX0_told 60 = .ok (.iload_n 1, 1) := dk_27 (dk_at dksX0_told_2 16 rfl rfl)
theorem dX0_told_61 : decode cX0_told 61 = .ok (.iaload, 1) := dk_46 (dk_at dksX0_told_2 17 rfl rfl)
theorem dX0_told_62 : decode cX0_told 62 = .ok (.goto 5, 3) := dk_167 0 5 (dk_at dksX0_told_2 18 rfl rfl)
theorem dX0_told_65 : decode cX0_told 65 = .ok (.bipush (-2), 2) := dk_16 254 (dk_at dksX0_told_2 21 rfl rfl)
theorem dX0_told_67 : decode cX0_told 67 = .ok (.ireturn, 1) := dk_172 (dk_at dksX0_told_2 23 rfl rfl)
theorem dX0_told_68 : decode cX0_told 68 = .ok (.iload_n 1, 1) := dk_27 (dk_at dksX0_told_3 0 rfl rfl)
theorem dX0_told_69 : decode cX0_told 69 = .ok (.invokestatic 59, 3) := dk_184 0 59 (dk_at dksX0_told_3 1 rfl rfl)
theorem dX0_told_72 : decode cX0_told 72 = .ok (.ifCond .eq 11, 3) := dk_153 0 11 (dk_at dksX0_told_3 4 rfl rfl)
theorem dX0_told_75 : decode cX0_told 75 = .ok (.aload_n 0, 1) := dk_42 (dk_at dksX0_told_3 7 rfl rfl)
theorem dX0_told_76 : decode cX0_told 76 = .ok (.iload_n 1, 1) := dk_27 (dk_at dksX0_told_3 8 rfl rfl)
theorem dX0_told_77 : decode cX0_told 77 = .ok (.invokevirtual 102, 3) := dk_182 0 102 (dk_at dksX0_told_3 9 rfl rfl)
theorem dX0_told_80 : decode cX0_told 80 = .ok (.goto 5, 3) := dk_167 0 5 (dk_at dksX0_told_3 12 rfl rfl)
theorem dX0_told_83 : decode cX0_told 83 = .ok (.bipush (-2), 2) := dk_16 254 (dk_at dksX0_told_3 15 rfl rfl)
theorem dX0_told_85 : decode cX0_told 85 = .ok (.ireturn, 1) := dk_172 (dk_at dksX0_told_3 17 rfl rfl)
theorem dX0_told_86 : decode cX0_told 86 = .ok (.iload_n 1, 1) := dk_27 (dk_at dksX0_told_3 18 rfl rfl)
theorem dX0_told_87 : decode cX0_told 87 = .ok (.invokestatic 59, 3) := dk_184 0 59 (dk_at dksX0_told_3 19 rfl rfl)
theorem dX0_told_90 : decode cX0_told 90 = .ok (.ifCond .eq 11, 3) := dk_153 0 11 (dk_at dksX0_told_4 0 rfl rfl)
theorem dX0_told_93 : decode cX0_told 93 = .ok (.aload_n 0, 1) := dk_42 (dk_at dksX0_told_4 3 rfl rfl)
theorem dX0_told_94 : decode cX0_told 94 = .ok (.iload_n 1, 1) := dk_27 (dk_at dksX0_told_4 4 rfl rfl)
theorem dX0_told_95 : decode cX0_told 95 = .ok (.invokevirtual 122, 3) := dk_182 0 122 (dk_at dksX0_told_4 5 rfl rfl)
theorem dX0_told_98 : decode cX0_told 98 = .ok (.goto 5, 3) := dk_167 0 5 (dk_at dksX0_told_4 8 rfl rfl)
theorem dX0_told_101 : decode cX0_told 101 = .ok (.bipush (-2), 2) := dk_16 254 (dk_at dksX0_told_4 11 rfl rfl)
theorem dX0_told_103 : decode cX0_told 103 = .ok (.ireturn, 1) := dk_172 (dk_at dksX0_told_4 13 rfl rfl)
theorem dX0_told_104 : decode cX0_told 104 = .ok (.iload_n 2, 1) := dk_28 (dk_at dksX0_told_4 14 rfl rfl)
theorem dX0_told_105 : decode cX0_told 105 = .ok (.i2l, 1) := dk_133 (dk_at dksX0_told_4 15 rfl rfl)
theorem dX0_told_106 : decode cX0_told 106 = .ok (.ldc2_w 125, 3) := dk_20 0 125 (dk_at dksX0_told_4 16 rfl rfl)
theorem dX0_told_109 : decode cX0_told 109 = .ok (.ldc2_w 45, 3) := dk_20 0 45 (dk_at dksX0_told_4 19 rfl rfl)
theorem dX0_told_112 : decode cX0_told 112 = .ok (.invokestatic 14, 3) := dk_184 0 14 (dk_at dksX0_told_5 0 rfl rfl)
theorem dX0_told_115 : decode cX0_told 115 = .ok (.ifCond .eq 20, 3) := dk_153 0 20 (dk_at dksX0_told_5 3 rfl rfl)
theorem dX0_told_118 : decode cX0_told 118 = .ok (.aload_n 0, 1) := dk_42 (dk_at dksX0_told_5 6 rfl rfl)
theorem dX0_told_119 : decode cX0_told 119 = .ok (.iload_n 1, 1) := dk_27 (dk_at dksX0_told_5 7 rfl rfl)
theorem dX0_told_120 : decode cX0_told 120 = .ok (.invokevirtual 65, 3) := dk_182 0 65 (dk_at dksX0_told_5 8 rfl rfl)
theorem dX0_told_123 : decode cX0_told 123 = .ok (.ifCond .eq 12, 3) := dk_153 0 12 (dk_at dksX0_told_5 11 rfl rfl)
theorem dX0_told_126 : decode cX0_told 126 = .ok (.aload_n 0, 1) := dk_42 (dk_at dksX0_told_5 14 rfl rfl)
theorem dX0_told_127 : decode cX0_told 127 = .ok (.iload_n 1, 1) := dk_27 (dk_at dksX0_told_5 15 rfl rfl)
theorem dX0_told_128 : decode cX0_told 128 = .ok (.iload_n 2, 1) := dk_28 (dk_at dksX0_told_5 16 rfl rfl)
theorem dX0_told_129 : decode cX0_told 129 = .ok (.invokevirtual 127, 3) := dk_182 0 127 (dk_at dksX0_told_5 17 rfl rfl)
theorem dX0_told_132 : decode cX0_told 132 = .ok (.goto 5, 3) := dk_167 0 5 (dk_at dksX0_told_5 20 rfl rfl)
theorem dX0_told_135 : decode cX0_told 135 = .ok (.bipush (-2), 2) := dk_16 254 (dk_at dksX0_told_6 0 rfl rfl)
theorem dX0_told_137 : decode cX0_told 137 = .ok (.ireturn, 1) := dk_172 (dk_at dksX0_told_6 2 rfl rfl)
abbrev cX0_whoIn : ByteArray := prog_1_method_10_code
def yX0_whoIn : MethodName := ⟨RX0, "whoIn", "(I)I"⟩
def dkwX0_whoIn_1 : List UInt8 := [172, 132, 2, 1, 167, 255, 230, 2, 172]
abbrev dktX0_whoIn_1 : List UInt8 := dkwX0_whoIn_1 ++ []
def dkwX0_whoIn_0 : List UInt8 := [3, 61, 28, 42, 180, 0, 18, 162, 0, 24, 42, 180, 0, 49, 28, 50, 180, 0, 95, 27, 160, 0, 5, 28]
abbrev dktX0_whoIn_0 : List UInt8 := dkwX0_whoIn_0 ++ dktX0_whoIn_1
theorem dksX0_whoIn_0 : cX0_whoIn.data.toList.drop 0 = dktX0_whoIn_0 := by decide +kernel
theorem dksX0_whoIn_1 : cX0_whoIn.data.toList.drop 24 = dktX0_whoIn_1 := dk_seg dksX0_whoIn_0 24 rfl rfl
theorem dX0_whoIn_0 : decode cX0_whoIn 0 = .ok (.iconst 0, 1) := dk_3 (dk_at dksX0_whoIn_0 0 rfl rfl)
theorem dX0_whoIn_1 : decode cX0_whoIn 1 = .ok (.istore_n 2, 1) := dk_61 (dk_at dksX0_whoIn_0 1 rfl rfl)
theorem dX0_whoIn_2 : decode cX0_whoIn 2 = .ok (.iload_n 2, 1) := dk_28 (dk_at dksX0_whoIn_0 2 rfl rfl)
theorem dX0_whoIn_3 : decode cX0_whoIn 3 = .ok (.aload_n 0, 1) := dk_42 (dk_at dksX0_whoIn_0 3 rfl rfl)
theorem dX0_whoIn_4 : decode cX0_whoIn 4 = .ok (.getfield 18, 3) := dk_180 0 18 (dk_at dksX0_whoIn_0 4 rfl rfl)
theorem dX0_whoIn_7 : decode cX0_whoIn 7 = .ok (.if_icmp .ge 24, 3) := dk_162 0 24 (dk_at dksX0_whoIn_0 7 rfl rfl)
theorem dX0_whoIn_10 : decode cX0_whoIn 10 = .ok (.aload_n 0, 1) := dk_42 (dk_at dksX0_whoIn_0 10 rfl rfl)
theorem dX0_whoIn_11 : decode cX0_whoIn 11 = .ok (.getfield 49, 3) := dk_180 0 49 (dk_at dksX0_whoIn_0 11 rfl rfl)
theorem dX0_whoIn_14 : decode cX0_whoIn 14 = .ok (.iload_n 2, 1) := dk_28 (dk_at dksX0_whoIn_0 14 rfl rfl)
theorem dX0_whoIn_15 : decode cX0_whoIn 15 = .ok (.aaload, 1) := dk_50 (dk_at dksX0_whoIn_0 15 rfl rfl)
theorem dX0_whoIn_16 : decode cX0_whoIn 16 = .ok (.getfield 95, 3) := dk_180 0 95 (dk_at dksX0_whoIn_0 16 rfl rfl)
theorem dX0_whoIn_19 : decode cX0_whoIn 19 = .ok (.iload_n 1, 1) := dk_27 (dk_at dksX0_whoIn_0 19 rfl rfl)
theorem dX0_whoIn_20 : decode cX0_whoIn 20 = .ok (.if_icmp .ne 5, 3) := dk_160 0 5 (dk_at dksX0_whoIn_0 20 rfl rfl)
theorem dX0_whoIn_23 : decode cX0_whoIn 23 = .ok (.iload_n 2, 1) := dk_28 (dk_at dksX0_whoIn_0 23 rfl rfl)
theorem dX0_whoIn_24 : decode cX0_whoIn 24 = .ok (.ireturn, 1) := dk_172 (dk_at dksX0_whoIn_1 0 rfl rfl)
theorem dX0_whoIn_25 : decode cX0_whoIn 25 = .ok (.iinc 2 1, 3) := dk_132 2 1 (dk_at dksX0_whoIn_1 1 rfl rfl)
theorem dX0_whoIn_28 : decode cX0_whoIn 28 = .ok (.goto (-26), 3) := dk_167 255 230 (dk_at dksX0_whoIn_1 4 rfl rfl)
theorem dX0_whoIn_31 : decode cX0_whoIn 31 = .ok (.iconst (-1), 1) := dk_2 (dk_at dksX0_whoIn_1 7 rfl rfl)
theorem dX0_whoIn_32 : decode cX0_whoIn 32 = .ok (.ireturn, 1) := dk_172 (dk_at dksX0_whoIn_1 8 rfl rfl)
abbrev cX0_sumIn : ByteArray := prog_1_method_46_code
def yX0_sumIn : MethodName := ⟨RX0, "sumIn", "(I)I"⟩
def dkwX0_sumIn_0 : List UInt8 := [42, 27, 182, 0, 102, 61, 28, 2, 160, 0, 7, 3, 167, 0, 9, 42, 28, 27, 182, 1, 127, 172]
abbrev dktX0_sumIn_0 : List UInt8 := dkwX0_sumIn_0 ++ []
theorem dksX0_sumIn_0 : cX0_sumIn.data.toList.drop 0 = dktX0_sumIn_0 := by decide +kernel
theorem dX0_sumIn_0 : decode cX0_sumIn 0 = .ok (.aload_n 0, 1) := dk_42 (dk_at dksX0_sumIn_0 0 rfl rfl)
theorem dX0_sumIn_1 : decode cX0_sumIn 1 = .ok (.iload_n 1, 1) := dk_27 (dk_at dksX0_sumIn_0 1 rfl rfl)
theorem dX0_sumIn_2 : decode cX0_sumIn 2 = .ok (.invokevirtual 102, 3) := dk_182 0 102 (dk_at dksX0_sumIn_0 2 rfl rfl)
theorem dX0_sumIn_5 : decode cX0_sumIn 5 = .ok (.istore_n 2, 1) := dk_61 (dk_at dksX0_sumIn_0 5 rfl rfl)
theorem dX0_sumIn_6 : decode cX0_sumIn 6 = .ok (.iload_n 2, 1) := dk_28 (dk_at dksX0_sumIn_0 6 rfl rfl)
theorem dX0_sumIn_7 : decode cX0_sumIn 7 = .ok (.iconst (-1), 1) := dk_2 (dk_at dksX0_sumIn_0 7 rfl rfl)
theorem dX0_sumIn_8 : decode cX0_sumIn 8 = .ok (.if_icmp .ne 7, 3) := dk_160 0 7 (dk_at dksX0_sumIn_0 8 rfl rfl)
theorem dX0_sumIn_11 : decode cX0_sumIn 11 = .ok (.iconst 0, 1) := dk_3 (dk_at dksX0_sumIn_0 11 rfl rfl)
theorem dX0_sumIn_12 : decode cX0_sumIn 12 = .ok (.goto 9, 3) := dk_167 0 9 (dk_at dksX0_sumIn_0 12 rfl rfl)
theorem dX0_sumIn_15 : decode cX0_sumIn 15 = .ok (.aload_n 0, 1) := dk_42 (dk_at dksX0_sumIn_0 15 rfl rfl)
theorem dX0_sumIn_16 : decode cX0_sumIn 16 = .ok (.iload_n 2, 1) := dk_28 (dk_at dksX0_sumIn_0 16 rfl rfl)
theorem dX0_sumIn_17 : decode cX0_sumIn 17 = .ok (.iload_n 1, 1) := dk_27 (dk_at dksX0_sumIn_0 17 rfl rfl)
theorem dX0_sumIn_18 : decode cX0_sumIn 18 = .ok (.invokevirtual 383, 3) := dk_182 1 127 (dk_at dksX0_sumIn_0 18 rfl rfl)
theorem dX0_sumIn_21 : decode cX0_sumIn 21 = .ok (.ireturn, 1) := dk_172 (dk_at dksX0_sumIn_0 21 rfl rfl)
abbrev cX0_sumOf : ByteArray := prog_1_method_45_code
def yX0_sumOf : MethodName := ⟨RX0, "sumOf", "(II)I"⟩
def dkwX0_sumOf_1 : List UInt8 := [29, 42, 27, 28, 21, 4, 182, 1, 123, 96, 62, 132, 4, 1, 167, 255, 223, 29, 172]
abbrev dktX0_sumOf_1 : List UInt8 := dkwX0_sumOf_1 ++ []
def dkwX0_sumOf_0 : List UInt8 := [3, 62, 3, 54, 4, 21, 4, 16, 8, 162, 0, 32, 42, 180, 0, 49, 27, 50, 180, 0, 98, 154, 0, 20]
abbrev dktX0_sumOf_0 : List UInt8 := dkwX0_sumOf_0 ++ dktX0_sumOf_1
theorem dksX0_sumOf_0 : cX0_sumOf.data.toList.drop 0 = dktX0_sumOf_0 := by decide +kernel
theorem dksX0_sumOf_1 : cX0_sumOf.data.toList.drop 24 = dktX0_sumOf_1 := dk_seg dksX0_sumOf_0 24 rfl rfl
theorem dX0_sumOf_0 : decode cX0_sumOf 0 = .ok (.iconst 0, 1) := dk_3 (dk_at dksX0_sumOf_0 0 rfl rfl)
theorem dX0_sumOf_1 : decode cX0_sumOf 1 = .ok (.istore_n 3, 1) := dk_62 (dk_at dksX0_sumOf_0 1 rfl rfl)
theorem dX0_sumOf_2 : decode cX0_sumOf 2 = .ok (.iconst 0, 1) := dk_3 (dk_at dksX0_sumOf_0 2 rfl rfl)
theorem dX0_sumOf_3 : decode cX0_sumOf 3 = .ok (.istore 4, 2) := dk_54 4 (dk_at dksX0_sumOf_0 3 rfl rfl)
theorem dX0_sumOf_5 : decode cX0_sumOf 5 = .ok (.iload 4, 2) := dk_21 4 (dk_at dksX0_sumOf_0 5 rfl rfl)
theorem dX0_sumOf_7 : decode cX0_sumOf 7 = .ok (.bipush 8, 2) := dk_16 8 (dk_at dksX0_sumOf_0 7 rfl rfl)
theorem dX0_sumOf_9 : decode cX0_sumOf 9 = .ok (.if_icmp .ge 32, 3) := dk_162 0 32 (dk_at dksX0_sumOf_0 9 rfl rfl)
theorem dX0_sumOf_12 : decode cX0_sumOf 12 = .ok (.aload_n 0, 1) := dk_42 (dk_at dksX0_sumOf_0 12 rfl rfl)
theorem dX0_sumOf_13 : decode cX0_sumOf 13 = .ok (.getfield 49, 3) := dk_180 0 49 (dk_at dksX0_sumOf_0 13 rfl rfl)
theorem dX0_sumOf_16 : decode cX0_sumOf 16 = .ok (.iload_n 1, 1) := dk_27 (dk_at dksX0_sumOf_0 16 rfl rfl)
theorem dX0_sumOf_17 : decode cX0_sumOf 17 = .ok (.aaload, 1) := dk_50 (dk_at dksX0_sumOf_0 17 rfl rfl)
theorem dX0_sumOf_18 : decode cX0_sumOf 18 = .ok (.getfield 98, 3) := dk_180 0 98 (dk_at dksX0_sumOf_0 18 rfl rfl)
theorem dX0_sumOf_21 : decode cX0_sumOf 21 = .ok (.ifCond .ne 20, 3) := dk_154 0 20 (dk_at dksX0_sumOf_0 21 rfl rfl)
theorem dX0_sumOf_24 : decode cX0_sumOf 24 = .ok (.iload_n 3, 1) := dk_29 (dk_at dksX0_sumOf_1 0 rfl rfl)
theorem dX0_sumOf_25 : decode cX0_sumOf 25 = .ok (.aload_n 0, 1) := dk_42 (dk_at dksX0_sumOf_1 1 rfl rfl)
theorem dX0_sumOf_26 : decode cX0_sumOf 26 = .ok (.iload_n 1, 1) := dk_27 (dk_at dksX0_sumOf_1 2 rfl rfl)
theorem dX0_sumOf_27 : decode cX0_sumOf 27 = .ok (.iload_n 2, 1) := dk_28 (dk_at dksX0_sumOf_1 3 rfl rfl)
theorem dX0_sumOf_28 : decode cX0_sumOf 28 = .ok (.iload 4, 2) := dk_21 4 (dk_at dksX0_sumOf_1 4 rfl rfl)
theorem dX0_sumOf_30 : decode cX0_sumOf 30 = .ok (.invokevirtual 379, 3) := dk_182 1 123 (dk_at dksX0_sumOf_1 6 rfl rfl)
theorem dX0_sumOf_33 : decode cX0_sumOf 33 = .ok (.iadd, 1) := dk_96 (dk_at dksX0_sumOf_1 9 rfl rfl)
theorem dX0_sumOf_34 : decode cX0_sumOf 34 = .ok (.istore_n 3, 1) := dk_62 (dk_at dksX0_sumOf_1 10 rfl rfl)
theorem dX0_sumOf_35 : decode cX0_sumOf 35 = .ok (.iinc 4 1, 3) := dk_132 4 1 (dk_at dksX0_sumOf_1 11 rfl rfl)
theorem dX0_sumOf_38 : decode cX0_sumOf 38 = .ok (.goto (-33), 3) := dk_167 255 223 (dk_at dksX0_sumOf_1 14 rfl rfl)
theorem dX0_sumOf_41 : decode cX0_sumOf 41 = .ok (.iload_n 3, 1) := dk_29 (dk_at dksX0_sumOf_1 17 rfl rfl)
theorem dX0_sumOf_42 : decode cX0_sumOf 42 = .ok (.ireturn, 1) := dk_172 (dk_at dksX0_sumOf_1 18 rfl rfl)
abbrev cX0_lightOf : ByteArray := prog_1_method_41_code
def yX0_lightOf : MethodName := ⟨RX0, "lightOf", "(III)I"⟩
def dkwX0_lightOf_0 : List UInt8 := [42, 180, 0, 49, 27, 50, 42, 3, 27, 29, 28, 3, 182, 1, 107, 29, 182, 1, 111, 184, 1, 114, 172]
abbrev dktX0_lightOf_0 : List UInt8 := dkwX0_lightOf_0 ++ []
theorem dksX0_lightOf_0 : cX0_lightOf.data.toList.drop 0 = dktX0_lightOf_0 := by decide +kernel
theorem dX0_lightOf_0 : decode cX0_lightOf 0 = .ok (.aload_n 0, 1) := dk_42 (dk_at dksX0_lightOf_0 0 rfl rfl)
theorem dX0_lightOf_1 : decode cX0_lightOf 1 = .ok (.getfield 49, 3) := dk_180 0 49 (dk_at dksX0_lightOf_0 1 rfl rfl)
theorem dX0_lightOf_4 : decode cX0_lightOf 4 = .ok (.iload_n 1, 1) := dk_27 (dk_at dksX0_lightOf_0 4 rfl rfl)
theorem dX0_lightOf_5 : decode cX0_lightOf 5 = .ok (.aaload, 1) := dk_50 (dk_at dksX0_lightOf_0 5 rfl rfl)
theorem dX0_lightOf_6 : decode cX0_lightOf 6 = .ok (.aload_n 0, 1) := dk_42 (dk_at dksX0_lightOf_0 6 rfl rfl)
theorem dX0_lightOf_7 : decode cX0_lightOf 7 = .ok (.iconst 0, 1) := dk_3 (dk_at dksX0_lightOf_0 7 rfl rfl)
theorem dX0_lightOf_8 : decode cX0_lightOf 8 = .ok (.iload_n 1, 1) := dk_27 (dk_at dksX0_lightOf_0 8 rfl rfl)
theorem dX0_lightOf_9 : decode cX0_lightOf 9 = .ok (.iload_n 3, 1) := dk_29 (dk_at dksX0_lightOf_0 9 rfl rfl)
theorem dX0_lightOf_10 : decode cX0_lightOf 10 = .ok (.iload_n 2, 1) := dk_28 (dk_at dksX0_lightOf_0 10 rfl rfl)
theorem dX0_lightOf_11 : decode cX0_lightOf 11 = .ok (.iconst 0, 1) := dk_3 (dk_at dksX0_lightOf_0 11 rfl rfl)
theorem dX0_lightOf_12 : decode cX0_lightOf 12 = .ok (.invokevirtual 363, 3) := dk_182 1 107 (dk_at dksX0_lightOf_0 12 rfl rfl)
theorem dX0_lightOf_15 : decode cX0_lightOf 15 = .ok (.iload_n 3, 1) := dk_29 (dk_at dksX0_lightOf_0 15 rfl rfl)
theorem dX0_lightOf_16 : decode cX0_lightOf 16 = .ok (.invokevirtual 367, 3) := dk_182 1 111 (dk_at dksX0_lightOf_0 16 rfl rfl)
theorem dX0_lightOf_19 : decode cX0_lightOf 19 = .ok (.invokestatic 370, 3) := dk_184 1 114 (dk_at dksX0_lightOf_0 19 rfl rfl)
theorem dX0_lightOf_22 : decode cX0_lightOf 22 = .ok (.ireturn, 1) := dk_172 (dk_at dksX0_lightOf_0 22 rfl rfl)
abbrev cX0_asks : ByteArray := prog_1_method_40_code
def yX0_asks : MethodName := ⟨RX0, "asks", "(IIIII)I"⟩
def dkwX0_asks_2 : List UInt8 := [167, 0, 14, 3, 16, 99, 21, 6, 184, 0, 3, 184, 0, 9, 172]
abbrev dktX0_asks_2 : List UInt8 := dkwX0_asks_2 ++ []
def dkwX0_asks_1 : List UInt8 := [180, 1, 10, 42, 180, 1, 89, 50, 27, 50, 182, 1, 104, 54, 6, 27, 5, 160, 0, 8, 21, 6]
abbrev dktX0_asks_1 : List UInt8 := dkwX0_asks_1 ++ dktX0_asks_2
def dkwX0_asks_0 : List UInt8 := [42, 28, 181, 1, 92, 42, 29, 181, 1, 95, 42, 21, 4, 181, 1, 98, 42, 21, 5, 181, 1, 101, 42]
abbrev dktX0_asks_0 : List UInt8 := dkwX0_asks_0 ++ dktX0_asks_1
theorem dksX0_asks_0 : cX0_asks.data.toList.drop 0 = dktX0_asks_0 := by decide +kernel
theorem dksX0_asks_1 : cX0_asks.data.toList.drop 23 = dktX0_asks_1 := dk_seg dksX0_asks_0 23 rfl rfl
theorem dksX0_asks_2 : cX0_asks.data.toList.drop 45 = dktX0_asks_2 := dk_seg dksX0_asks_1 22 rfl rfl
theorem dX0_asks_0 : decode cX0_asks 0 = .ok (.aload_n 0, 1) := dk_42 (dk_at dksX0_asks_0 0 rfl rfl)
theorem dX0_asks_1 : decode cX0_asks 1 = .ok (.iload_n 2, 1) := dk_28 (dk_at dksX0_asks_0 1 rfl rfl)
theorem dX0_asks_2 : decode cX0_asks 2 = .ok (.putfield 348, 3) := dk_181 1 92 (dk_at dksX0_asks_0 2 rfl rfl)
theorem dX0_asks_5 : decode cX0_asks 5 = .ok (.aload_n 0, 1) := dk_42 (dk_at dksX0_asks_0 5 rfl rfl)
theorem dX0_asks_6 : decode cX0_asks 6 = .ok (.iload_n 3, 1) := dk_29 (dk_at dksX0_asks_0 6 rfl rfl)
theorem dX0_asks_7 : decode cX0_asks 7 = .ok (.putfield 351, 3) := dk_181 1 95 (dk_at dksX0_asks_0 7 rfl rfl)
theorem dX0_asks_10 : decode cX0_asks 10 = .ok (.aload_n 0, 1) := dk_42 (dk_at dksX0_asks_0 10 rfl rfl)
theorem dX0_asks_11 : decode cX0_asks 11 = .ok (.iload 4, 2) := dk_21 4 (dk_at dksX0_asks_0 11 rfl rfl)
theorem dX0_asks_13 : decode cX0_asks 13 = .ok (.putfield 354, 3) := dk_181 1 98 (dk_at dksX0_asks_0 13 rfl rfl)
theorem dX0_asks_16 : decode cX0_asks 16 = .ok (.aload_n 0, 1) := dk_42 (dk_at dksX0_asks_0 16 rfl rfl)
theorem dX0_asks_17 : decode cX0_asks 17 = .ok (.iload 5, 2) := dk_21 5 (dk_at dksX0_asks_0 17 rfl rfl)
theorem dX0_asks_19 : decode cX0_asks 19 = .ok (.putfield 357, 3) := dk_181 1 101 (dk_at dksX0_asks_0 19 rfl rfl)
theorem dX0_asks_22 : decode cX0_asks 22 = .ok (.aload_n 0, 1) := dk_42 (dk_at dksX0_asks_0 22 rfl rfl)
theorem dX0_asks_23 : decode cX0_asks 23 = .ok (.getfield 266, 3) := dk_180 1 10 (dk_at dksX0_asks_1 0 rfl rfl)
theorem dX0_asks_26 : decode cX0_asks 26 = .ok (.aload_n 0, 1) := dk_42 (dk_at dksX0_asks_1 3 rfl rfl)
theorem dX0_asks_27 : decode cX0_asks 27 = .ok (.getfield 345, 3) := dk_180 1 89 (dk_at dksX0_asks_1 4 rfl rfl)
theorem dX0_asks_30 : decode cX0_asks 30 = .ok (.aaload, 1) := dk_50 (dk_at dksX0_asks_1 7 rfl rfl)
theorem dX0_asks_31 : decode cX0_asks 31 = .ok (.iload_n 1, 1) := dk_27 (dk_at dksX0_asks_1 8 rfl rfl)
theorem dX0_asks_32 : decode cX0_asks 32 = .ok (.aaload, 1) := dk_50 (dk_at dksX0_asks_1 9 rfl rfl)
theorem dX0_asks_33 : decode cX0_asks 33 = .ok (.invokevirtual 360, 3) := dk_182 1 104 (dk_at dksX0_asks_1 10 rfl rfl)
theorem dX0_asks_36 : decode cX0_asks 36 = .ok (.istore 6, 2) := dk_54 6 (dk_at dksX0_asks_1 13 rfl rfl)
theorem dX0_asks_38 : decode cX0_asks 38 = .ok (.iload_n 1, 1) := dk_27 (dk_at dksX0_asks_1 15 rfl rfl)
theorem dX0_asks_39 : decode cX0_asks 39 = .ok (.iconst 2, 1) := dk_5 (dk_at dksX0_asks_1 16 rfl rfl)
theorem dX0_asks_40 : decode cX0_asks 40 = .ok (.if_icmp .ne 8, 3) := dk_160 0 8 (dk_at dksX0_asks_1 17 rfl rfl)
theorem dX0_asks_43 : decode cX0_asks 43 = .ok (.iload 6, 2) := dk_21 6 (dk_at dksX0_asks_1 20 rfl rfl)
theorem dX0_asks_45 : decode cX0_asks 45 = .ok (.goto 14, 3) := dk_167 0 14 (dk_at dksX0_asks_2 0 rfl rfl)
theorem dX0_asks_48 : decode cX0_asks 48 = .ok (.iconst 0, 1) := dk_3 (dk_at dksX0_asks_2 3 rfl rfl)
theorem dX0_asks_49 : decode cX0_asks 49 = .ok (.bipush 99, 2) := dk_16 99 (dk_at dksX0_asks_2 4 rfl rfl)
theorem dX0_asks_51 : decode cX0_asks 51 = .ok (.iload 6, 2) := dk_21 6 (dk_at dksX0_asks_2 6 rfl rfl)
theorem dX0_asks_53 : decode cX0_asks 53 = .ok (.invokestatic 3, 3) := dk_184 0 3 (dk_at dksX0_asks_2 8 rfl rfl)
theorem dX0_asks_56 : decode cX0_asks 56 = .ok (.invokestatic 9, 3) := dk_184 0 9 (dk_at dksX0_asks_2 11 rfl rfl)
theorem dX0_asks_59 : decode cX0_asks 59 = .ok (.ireturn, 1) := dk_172 (dk_at dksX0_asks_2 14 rfl rfl)
abbrev cX0_held : ByteArray := prog_1_method_2_code
def yX0_held : MethodName := ⟨RX0, "held", "(I)I"⟩
def dkwX0_held_0 : List UInt8 := [3, 17, 3, 231, 26, 184, 0, 3, 184, 0, 9, 172]
abbrev dktX0_held_0 : List UInt8 := dkwX0_held_0 ++ []
theorem dksX0_held_0 : cX0_held.data.toList.drop 0 = dktX0_held_0 := by decide +kernel
theorem dX0_held_0 : decode cX0_held 0 = .ok (.iconst 0, 1) := dk_3 (dk_at dksX0_held_0 0 rfl rfl)
theorem dX0_held_1 : decode cX0_held 1 = .ok (.sipush 999, 3) := dk_17 3 231 (dk_at dksX0_held_0 1 rfl rfl)
theorem dX0_held_4 : decode cX0_held 4 = .ok (.iload_n 0, 1) := dk_26 (dk_at dksX0_held_0 4 rfl rfl)
theorem dX0_held_5 : decode cX0_held 5 = .ok (.invokestatic 3, 3) := dk_184 0 3 (dk_at dksX0_held_0 5 rfl rfl)
theorem dX0_held_8 : decode cX0_held 8 = .ok (.invokestatic 9, 3) := dk_184 0 9 (dk_at dksX0_held_0 8 rfl rfl)
theorem dX0_held_11 : decode cX0_held 11 = .ok (.ireturn, 1) := dk_172 (dk_at dksX0_held_0 11 rfl rfl)
abbrev cX0_toldPane : ByteArray := prog_1_method_14_code
def yX0_toldPane : MethodName := ⟨RX0, "toldPane", "(II)I"⟩
def dkwX0_toldPane_4 : List UInt8 := [172]
abbrev dktX0_toldPane_4 : List UInt8 := dkwX0_toldPane_4 ++ []
def dkwX0_toldPane_3 : List UInt8 := [172, 45, 180, 0, 98, 153, 0, 7, 4, 167, 0, 4, 3, 172, 42, 27, 182, 0, 119, 172, 45, 182, 0, 109]
abbrev dktX0_toldPane_3 : List UInt8 := dkwX0_toldPane_3 ++ dktX0_toldPane_4
def dkwX0_toldPane_2 : List UInt8 := [45, 180, 0, 75, 172, 45, 180, 0, 78, 172, 45, 180, 0, 81, 172, 45, 182, 0, 116, 172, 45, 180, 0, 95]
abbrev dktX0_toldPane_2 : List UInt8 := dkwX0_toldPane_2 ++ dktX0_toldPane_3
def dkwX0_toldPane_1 : List UInt8 := [170, 0, 0, 0, 0, 0, 0, 88, 0, 0, 0, 2, 0, 0, 0, 8, 0, 0, 0, 44, 0, 0, 0, 49, 0, 0, 0, 54, 0, 0, 0, 59, 0, 0, 0, 64, 0, 0, 0, 69, 0, 0, 0, 82]
abbrev dktX0_toldPane_1 : List UInt8 := dkwX0_toldPane_1 ++ dktX0_toldPane_2
def dkwX0_toldPane_0 : List UInt8 := [42, 180, 0, 49, 27, 50, 78, 28]
abbrev dktX0_toldPane_0 : List UInt8 := dkwX0_toldPane_0 ++ dktX0_toldPane_1
theorem dksX0_toldPane_0 : cX0_toldPane.data.toList.drop 0 = dktX0_toldPane_0 := by decide +kernel
theorem dksX0_toldPane_1 : cX0_toldPane.data.toList.drop 8 = dktX0_toldPane_1 := dk_seg dksX0_toldPane_0 8 rfl rfl
theorem dksX0_toldPane_2 : cX0_toldPane.data.toList.drop 52 = dktX0_toldPane_2 := dk_seg dksX0_toldPane_1 44 rfl rfl
theorem dksX0_toldPane_3 : cX0_toldPane.data.toList.drop 76 = dktX0_toldPane_3 := dk_seg dksX0_toldPane_2 24 rfl rfl
theorem dksX0_toldPane_4 : cX0_toldPane.data.toList.drop 100 = dktX0_toldPane_4 := dk_seg dksX0_toldPane_3 24 rfl rfl
theorem dX0_toldPane_0 : decode cX0_toldPane 0 = .ok (.aload_n 0, 1) := dk_42 (dk_at dksX0_toldPane_0 0 rfl rfl)
theorem dX0_toldPane_1 : decode cX0_toldPane 1 = .ok (.getfield 49, 3) := dk_180 0 49 (dk_at dksX0_toldPane_0 1 rfl rfl)
theorem dX0_toldPane_4 : decode cX0_toldPane 4 = .ok (.iload_n 1, 1) := dk_27 (dk_at dksX0_toldPane_0 4 rfl rfl)
theorem dX0_toldPane_5 : decode cX0_toldPane 5 = .ok (.aaload, 1) := dk_50 (dk_at dksX0_toldPane_0 5 rfl rfl)
theorem dX0_toldPane_6 : decode cX0_toldPane 6 = .ok (.astore_n 3, 1) := dk_78 (dk_at dksX0_toldPane_0 6 rfl rfl)
theorem dX0_toldPane_7 : decode cX0_toldPane 7 = .ok (.iload_n 2, 1) := dk_28 (dk_at dksX0_toldPane_0 7 rfl rfl)
theorem dX0_toldPane_8 : decode cX0_toldPane 8 = .ok (.tableswitch 88 2 8 #[44, 49, 54, 59, 64, 69, 82], 44) := by decide +kernel
theorem dX0_toldPane_52 : decode cX0_toldPane 52 = .ok (.aload_n 3, 1) := dk_45 (dk_at dksX0_toldPane_2 0 rfl rfl)
theorem dX0_toldPane_53 : decode cX0_toldPane 53 = .ok (.getfield 75, 3) := dk_180 0 75 (dk_at dksX0_toldPane_2 1 rfl rfl)
theorem dX0_toldPane_56 : decode cX0_toldPane 56 = .ok (.ireturn, 1) := dk_172 (dk_at dksX0_toldPane_2 4 rfl rfl)
theorem dX0_toldPane_57 : decode cX0_toldPane 57 = .ok (.aload_n 3, 1) := dk_45 (dk_at dksX0_toldPane_2 5 rfl rfl)
theorem dX0_toldPane_58 : decode cX0_toldPane 58 = .ok (.getfield 78, 3) := dk_180 0 78 (dk_at dksX0_toldPane_2 6 rfl rfl)
theorem dX0_toldPane_61 : decode cX0_toldPane 61 = .ok (.ireturn, 1) := dk_172 (dk_at dksX0_toldPane_2 9 rfl rfl)
theorem dX0_toldPane_62 : decode cX0_toldPane 62 = .ok (.aload_n 3, 1) := dk_45 (dk_at dksX0_toldPane_2 10 rfl rfl)
theorem dX0_toldPane_63 : decode cX0_toldPane 63 = .ok (.getfield 81, 3) := dk_180 0 81 (dk_at dksX0_toldPane_2 11 rfl rfl)
theorem dX0_toldPane_66 : decode cX0_toldPane 66 = .ok (.ireturn, 1) := dk_172 (dk_at dksX0_toldPane_2 14 rfl rfl)
theorem dX0_toldPane_67 : decode cX0_toldPane 67 = .ok (.aload_n 3, 1) := dk_45 (dk_at dksX0_toldPane_2 15 rfl rfl)
theorem dX0_toldPane_68 : decode cX0_toldPane 68 = .ok (.invokevirtual 116, 3) := dk_182 0 116 (dk_at dksX0_toldPane_2 16 rfl rfl)
theorem dX0_toldPane_71 : decode cX0_toldPane 71 = .ok (.ireturn, 1) := dk_172 (dk_at dksX0_toldPane_2 19 rfl rfl)
theorem dX0_toldPane_72 : decode cX0_toldPane 72 = .ok (.aload_n 3, 1) := dk_45 (dk_at dksX0_toldPane_2 20 rfl rfl)
theorem dX0_toldPane_73 : decode cX0_toldPane 73 = .ok (.getfield 95, 3) := dk_180 0 95 (dk_at dksX0_toldPane_2 21 rfl rfl)
theorem dX0_toldPane_76 : decode cX0_toldPane 76 = .ok (.ireturn, 1) := dk_172 (dk_at dksX0_toldPane_3 0 rfl rfl)
theorem dX0_toldPane_77 : decode cX0_toldPane 77 = .ok (.aload_n 3, 1) := dk_45 (dk_at dksX0_toldPane_3 1 rfl rfl)
theorem dX0_toldPane_78 : decode cX0_toldPane 78 = .ok (.getfield 98, 3) := dk_180 0 98 (dk_at dksX0_toldPane_3 2 rfl rfl)
theorem dX0_toldPane_81 : decode cX0_toldPane 81 = .ok (.ifCond .eq 7, 3) := dk_153 0 7 (dk_at dksX0_toldPane_3 5 rfl rfl)
theorem dX0_toldPane_84 : decode cX0_toldPane 84 = .ok (.iconst 1, 1) := dk_4 (dk_at dksX0_toldPane_3 8 rfl rfl)
theorem dX0_toldPane_85 : decode cX0_toldPane 85 = .ok (.goto 4, 3) := dk_167 0 4 (dk_at dksX0_toldPane_3 9 rfl rfl)
theorem dX0_toldPane_88 : decode cX0_toldPane 88 = .ok (.iconst 0, 1) := dk_3 (dk_at dksX0_toldPane_3 12 rfl rfl)
theorem dX0_toldPane_89 : decode cX0_toldPane 89 = .ok (.ireturn, 1) := dk_172 (dk_at dksX0_toldPane_3 13 rfl rfl)
theorem dX0_toldPane_90 : decode cX0_toldPane 90 = .ok (.aload_n 0, 1) := dk_42 (dk_at dksX0_toldPane_3 14 rfl rfl)
theorem dX0_toldPane_91 : decode cX0_toldPane 91 = .ok (.iload_n 1, 1) := dk_27 (dk_at dksX0_toldPane_3 15 rfl rfl)
theorem dX0_toldPane_92 : decode cX0_toldPane 92 = .ok (.invokevirtual 119, 3) := dk_182 0 119 (dk_at dksX0_toldPane_3 16 rfl rfl)
theorem dX0_toldPane_95 : decode cX0_toldPane 95 = .ok (.ireturn, 1) := dk_172 (dk_at dksX0_toldPane_3 19 rfl rfl)
theorem dX0_toldPane_96 : decode cX0_toldPane 96 = .ok (.aload_n 3, 1) := dk_45 (dk_at dksX0_toldPane_3 20 rfl rfl)
theorem dX0_toldPane_97 : decode cX0_toldPane 97 = .ok (.invokevirtual 109, 3) := dk_182 0 109 (dk_at dksX0_toldPane_3 21 rfl rfl)
theorem dX0_toldPane_100 : decode cX0_toldPane 100 = .ok (.ireturn, 1) := dk_172 (dk_at dksX0_toldPane_4 0 rfl rfl)
abbrev cX0_costsOf : ByteArray := prog_1_method_42_code
def yX0_costsOf : MethodName := ⟨RX0, "costsOf", "(I)I"⟩
def dkwX0_costsOf_0 : List UInt8 := [42, 180, 0, 49, 27, 50, 42, 4, 27, 3, 7, 3, 182, 1, 107, 182, 1, 117, 184, 1, 114, 172]
abbrev dktX0_costsOf_0 : List UInt8 := dkwX0_costsOf_0 ++ []
theorem dksX0_costsOf_0 : cX0_costsOf.data.toList.drop 0 = dktX0_costsOf_0 := by decide +kernel
theorem dX0_costsOf_0 : decode cX0_costsOf 0 = .ok (.aload_n 0, 1) := dk_42 (dk_at dksX0_costsOf_0 0 rfl rfl)
theorem dX0_costsOf_1 : decode cX0_costsOf 1 = .ok (.getfield 49, 3) := dk_180 0 49 (dk_at dksX0_costsOf_0 1 rfl rfl)
theorem dX0_costsOf_4 : decode cX0_costsOf 4 = .ok (.iload_n 1, 1) := dk_27 (dk_at dksX0_costsOf_0 4 rfl rfl)
theorem dX0_costsOf_5 : decode cX0_costsOf 5 = .ok (.aaload, 1) := dk_50 (dk_at dksX0_costsOf_0 5 rfl rfl)
theorem dX0_costsOf_6 : decode cX0_costsOf 6 = .ok (.aload_n 0, 1) := dk_42 (dk_at dksX0_costsOf_0 6 rfl rfl)
theorem dX0_costsOf_7 : decode cX0_costsOf 7 = .ok (.iconst 1, 1) := dk_4 (dk_at dksX0_costsOf_0 7 rfl rfl)
theorem dX0_costsOf_8 : decode cX0_costsOf 8 = .ok (.iload_n 1, 1) := dk_27 (dk_at dksX0_costsOf_0 8 rfl rfl)
theorem dX0_costsOf_9 : decode cX0_costsOf 9 = .ok (.iconst 0, 1) := dk_3 (dk_at dksX0_costsOf_0 9 rfl rfl)
theorem dX0_costsOf_10 : decode cX0_costsOf 10 = .ok (.iconst 4, 1) := dk_7 (dk_at dksX0_costsOf_0 10 rfl rfl)
theorem dX0_costsOf_11 : decode cX0_costsOf 11 = .ok (.iconst 0, 1) := dk_3 (dk_at dksX0_costsOf_0 11 rfl rfl)
theorem dX0_costsOf_12 : decode cX0_costsOf 12 = .ok (.invokevirtual 363, 3) := dk_182 1 107 (dk_at dksX0_costsOf_0 12 rfl rfl)
theorem dX0_costsOf_15 : decode cX0_costsOf 15 = .ok (.invokevirtual 373, 3) := dk_182 1 117 (dk_at dksX0_costsOf_0 15 rfl rfl)
theorem dX0_costsOf_18 : decode cX0_costsOf 18 = .ok (.invokestatic 370, 3) := dk_184 1 114 (dk_at dksX0_costsOf_0 18 rfl rfl)
theorem dX0_costsOf_21 : decode cX0_costsOf 21 = .ok (.ireturn, 1) := dk_172 (dk_at dksX0_costsOf_0 21 rfl rfl)
abbrev cX0_becomes : ByteArray := prog_1_method_8_code
def yX0_becomes : MethodName := ⟨RX0, "becomes", "(III)V"⟩
def dkwX0_becomes_4 : List UInt8 := [28, 50, 29, 181, 0, 81, 177]
abbrev dktX0_becomes_4 : List UInt8 := dkwX0_becomes_4 ++ []
def dkwX0_becomes_3 : List UInt8 := [29, 181, 0, 75, 167, 0, 26, 42, 180, 0, 49, 28, 50, 29, 181, 0, 78, 167, 0, 13, 42, 180, 0, 49]
abbrev dktX0_becomes_3 : List UInt8 := dkwX0_becomes_3 ++ dktX0_becomes_4
def dkwX0_becomes_2 : List UInt8 := [42, 29, 181, 0, 68, 167, 0, 49, 42, 180, 0, 71, 28, 29, 79, 167, 0, 39, 42, 180, 0, 49, 28, 50]
abbrev dktX0_becomes_2 : List UInt8 := dkwX0_becomes_2 ++ dktX0_becomes_3
def dkwX0_becomes_1 : List UInt8 := [170, 0, 0, 0, 0, 0, 75, 0, 0, 0, 0, 0, 0, 0, 3, 0, 0, 0, 31, 0, 0, 0, 39, 0, 0, 0, 49, 0, 0, 0, 62]
abbrev dktX0_becomes_1 : List UInt8 := dkwX0_becomes_1 ++ dktX0_becomes_2
def dkwX0_becomes_0 : List UInt8 := [27]
abbrev dktX0_becomes_0 : List UInt8 := dkwX0_becomes_0 ++ dktX0_becomes_1
theorem dksX0_becomes_0 : cX0_becomes.data.toList.drop 0 = dktX0_becomes_0 := by decide +kernel
theorem dksX0_becomes_1 : cX0_becomes.data.toList.drop 1 = dktX0_becomes_1 := dk_seg dksX0_becomes_0 1 rfl rfl
theorem dksX0_becomes_2 : cX0_becomes.data.toList.drop 32 = dktX0_becomes_2 := dk_seg dksX0_becomes_1 31 rfl rfl
theorem dksX0_becomes_3 : cX0_becomes.data.toList.drop 56 = dktX0_becomes_3 := dk_seg dksX0_becomes_2 24 rfl rfl
theorem dksX0_becomes_4 : cX0_becomes.data.toList.drop 80 = dktX0_becomes_4 := dk_seg dksX0_becomes_3 24 rfl rfl
theorem dX0_becomes_0 : decode cX0_becomes 0 = .ok (.iload_n 1, 1) := dk_27 (dk_at dksX0_becomes_0 0 rfl rfl)
theorem dX0_becomes_1 : decode cX0_becomes 1 = .ok (.tableswitch 75 0 3 #[31, 39, 49, 62], 31) := by decide +kernel
theorem dX0_becomes_32 : decode cX0_becomes 32 = .ok (.aload_n 0, 1) := dk_42 (dk_at dksX0_becomes_2 0 rfl rfl)
theorem dX0_becomes_33 : decode cX0_becomes 33 = .ok (.iload_n 3, 1) := dk_29 (dk_at dksX0_becomes_2 1 rfl rfl)
theorem dX0_becomes_34 : decode cX0_becomes 34 = .ok (.putfield 68, 3) := dk_181 0 68 (dk_at dksX0_becomes_2 2 rfl rfl)
theorem dX0_becomes_37 : decode cX0_becomes 37 = .ok (.goto 49, 3) := dk_167 0 49 (dk_at dksX0_becomes_2 5 rfl rfl)
theorem dX0_becomes_40 : decode cX0_becomes 40 = .ok (.aload_n 0, 1) := dk_42 (dk_at dksX0_becomes_2 8 rfl rfl)
theorem dX0_becomes_41 : decode cX0_becomes 41 = .ok (.getfield 71, 3) := dk_180 0 71 (dk_at dksX0_becomes_2 9 rfl rfl)
theorem dX0_becomes_44 : decode cX0_becomes 44 = .ok (.iload_n 2, 1) := dk_28 (dk_at dksX0_becomes_2 12 rfl rfl)
theorem dX0_becomes_45 : decode cX0_becomes 45 = .ok (.iload_n 3, 1) := dk_29 (dk_at dksX0_becomes_2 13 rfl rfl)
theorem dX0_becomes_46 : decode cX0_becomes 46 = .ok (.iastore, 1) := dk_79 (dk_at dksX0_becomes_2 14 rfl rfl)
theorem dX0_becomes_47 : decode cX0_becomes 47 = .ok (.goto 39, 3) := dk_167 0 39 (dk_at dksX0_becomes_2 15 rfl rfl)
theorem dX0_becomes_50 : decode cX0_becomes 50 = .ok (.aload_n 0, 1) := dk_42 (dk_at dksX0_becomes_2 18 rfl rfl)
theorem dX0_becomes_51 : decode cX0_becomes 51 = .ok (.getfield 49, 3) := dk_180 0 49 (dk_at dksX0_becomes_2 19 rfl rfl)
theorem dX0_becomes_54 : decode cX0_becomes 54 = .ok (.iload_n 2, 1) := dk_28 (dk_at dksX0_becomes_2 22 rfl rfl)
theorem dX0_becomes_55 : decode cX0_becomes 55 = .ok (.aaload, 1) := dk_50 (dk_at dksX0_becomes_2 23 rfl rfl)
theorem dX0_becomes_56 : decode cX0_becomes 56 = .ok (.iload_n 3, 1) := dk_29 (dk_at dksX0_becomes_3 0 rfl rfl)
theorem dX0_becomes_57 : decode cX0_becomes 57 = .ok (.putfield 75, 3) := dk_181 0 75 (dk_at dksX0_becomes_3 1 rfl rfl)
theorem dX0_becomes_60 : decode cX0_becomes 60 = .ok (.goto 26, 3) := dk_167 0 26 (dk_at dksX0_becomes_3 4 rfl rfl)
theorem dX0_becomes_63 : decode cX0_becomes 63 = .ok (.aload_n 0, 1) := dk_42 (dk_at dksX0_becomes_3 7 rfl rfl)
theorem dX0_becomes_64 : decode cX0_becomes 64 = .ok (.getfield 49, 3) := dk_180 0 49 (dk_at dksX0_becomes_3 8 rfl rfl)
theorem dX0_becomes_67 : decode cX0_becomes 67 = .ok (.iload_n 2, 1) := dk_28 (dk_at dksX0_becomes_3 11 rfl rfl)
theorem dX0_becomes_68 : decode cX0_becomes 68 = .ok (.aaload, 1) := dk_50 (dk_at dksX0_becomes_3 12 rfl rfl)
theorem dX0_becomes_69 : decode cX0_becomes 69 = .ok (.iload_n 3, 1) := dk_29 (dk_at dksX0_becomes_3 13 rfl rfl)
theorem dX0_becomes_70 : decode cX0_becomes 70 = .ok (.putfield 78, 3) := dk_181 0 78 (dk_at dksX0_becomes_3 14 rfl rfl)
theorem dX0_becomes_73 : decode cX0_becomes 73 = .ok (.goto 13, 3) := dk_167 0 13 (dk_at dksX0_becomes_3 17 rfl rfl)
theorem dX0_becomes_76 : decode cX0_becomes 76 = .ok (.aload_n 0, 1) := dk_42 (dk_at dksX0_becomes_3 20 rfl rfl)
theorem dX0_becomes_77 : decode cX0_becomes 77 = .ok (.getfield 49, 3) := dk_180 0 49 (dk_at dksX0_becomes_3 21 rfl rfl)
theorem dX0_becomes_80 : decode cX0_becomes 80 = .ok (.iload_n 2, 1) := dk_28 (dk_at dksX0_becomes_4 0 rfl rfl)
theorem dX0_becomes_81 : decode cX0_becomes 81 = .ok (.aaload, 1) := dk_50 (dk_at dksX0_becomes_4 1 rfl rfl)
theorem dX0_becomes_82 : decode cX0_becomes 82 = .ok (.iload_n 3, 1) := dk_29 (dk_at dksX0_becomes_4 2 rfl rfl)
theorem dX0_becomes_83 : decode cX0_becomes 83 = .ok (.putfield 81, 3) := dk_181 0 81 (dk_at dksX0_becomes_4 3 rfl rfl)
theorem dX0_becomes_86 : decode cX0_becomes 86 = .ok (.return_, 1) := dk_177 (dk_at dksX0_becomes_4 6 rfl rfl)
abbrev cX0_glaze : ByteArray := prog_1_method_11_code
def yX0_glaze : MethodName := ⟨RX0, "glaze", "(II)I"⟩
def dkwX0_glaze_3 : List UInt8 := [180, 0, 49, 28, 50, 27, 181, 0, 95, 29, 172]
abbrev dktX0_glaze_3 : List UInt8 := dkwX0_glaze_3 ++ []
def dkwX0_glaze_2 : List UInt8 := [62, 29, 2, 159, 0, 13, 42, 180, 0, 49, 29, 50, 2, 181, 0, 95, 28, 2, 159, 0, 13, 42]
abbrev dktX0_glaze_2 : List UInt8 := dkwX0_glaze_2 ++ dktX0_glaze_3
def dkwX0_glaze_1 : List UInt8 := [2, 159, 0, 18, 42, 180, 0, 49, 28, 50, 180, 0, 98, 153, 0, 6, 16, 253, 172, 42, 27, 182, 0, 102]
abbrev dktX0_glaze_1 : List UInt8 := dkwX0_glaze_1 ++ dktX0_glaze_2
def dkwX0_glaze_0 : List UInt8 := [27, 184, 0, 59, 153, 0, 16, 28, 2, 159, 0, 14, 42, 28, 182, 0, 65, 154, 0, 6, 16, 254, 172, 28]
abbrev dktX0_glaze_0 : List UInt8 := dkwX0_glaze_0 ++ dktX0_glaze_1
theorem dksX0_glaze_0 : cX0_glaze.data.toList.drop 0 = dktX0_glaze_0 := by decide +kernel
theorem dksX0_glaze_1 : cX0_glaze.data.toList.drop 24 = dktX0_glaze_1 := dk_seg dksX0_glaze_0 24 rfl rfl
theorem dksX0_glaze_2 : cX0_glaze.data.toList.drop 48 = dktX0_glaze_2 := dk_seg dksX0_glaze_1 24 rfl rfl
theorem dksX0_glaze_3 : cX0_glaze.data.toList.drop 70 = dktX0_glaze_3 := dk_seg dksX0_glaze_2 22 rfl rfl
theorem dX0_glaze_0 : decode cX0_glaze 0 = .ok (.iload_n 1, 1) := dk_27 (dk_at dksX0_glaze_0 0 rfl rfl)
theorem dX0_glaze_1 : decode cX0_glaze 1 = .ok (.invokestatic 59, 3) := dk_184 0 59 (dk_at dksX0_glaze_0 1 rfl rfl)
theorem dX0_glaze_4 : decode cX0_glaze 4 = .ok (.ifCond .eq 16, 3) := dk_153 0 16 (dk_at dksX0_glaze_0 4 rfl rfl)
theorem dX0_glaze_7 : decode cX0_glaze 7 = .ok (.iload_n 2, 1) := dk_28 (dk_at dksX0_glaze_0 7 rfl rfl)
theorem dX0_glaze_8 : decode cX0_glaze 8 = .ok (.iconst (-1), 1) := dk_2 (dk_at dksX0_glaze_0 8 rfl rfl)
theorem dX0_glaze_9 : decode cX0_glaze 9 = .ok (.if_icmp .eq 14, 3) := dk_159 0 14 (dk_at dksX0_glaze_0 9 rfl rfl)
theorem dX0_glaze_12 : decode cX0_glaze 12 = .ok (.aload_n 0, 1) := dk_42 (dk_at dksX0_glaze_0 12 rfl rfl)
theorem dX0_glaze_13 : decode cX0_glaze 13 = .ok (.iload_n 2, 1) := dk_28 (dk_at dksX0_glaze_0 13 rfl rfl)
theorem dX0_glaze_14 : decode cX0_glaze 14 = .ok (.invokevirtual 65, 3) := dk_182 0 65 (dk_at dksX0_glaze_0 14 rfl rfl)
theorem dX0_glaze_17 : decode cX0_glaze 17 = .ok (.ifCond .ne 6, 3) := dk_154 0 6 (dk_at dksX0_glaze_0 17 rfl rfl)
theorem dX0_glaze_20 : decode cX0_glaze 20 = .ok (.bipush (-2), 2) := dk_16 254 (dk_at dksX0_glaze_0 20 rfl rfl)
theorem dX0_glaze_22 : decode cX0_glaze 22 = .ok (.ireturn, 1) := dk_172 (dk_at dksX0_glaze_0 22 rfl rfl)
theorem dX0_glaze_23 : decode cX0_glaze 23 = .ok (.iload_n 2, 1) := dk_28 (dk_at dksX0_glaze_0 23 rfl rfl)
theorem dX0_glaze_24 : decode cX0_glaze 24 = .ok (.iconst (-1), 1) := dk_2 (dk_at dksX0_glaze_1 0 rfl rfl)
theorem dX0_glaze_25 : decode cX0_glaze 25 = .ok (.if_icmp .eq 18, 3) := dk_159 0 18 (dk_at dksX0_glaze_1 1 rfl rfl)
theorem dX0_glaze_28 : decode cX0_glaze 28 = .ok (.aload_n 0, 1) := dk_42 (dk_at dksX0_glaze_1 4 rfl rfl)
theorem dX0_glaze_29 : decode cX0_glaze 29 = .ok (.getfield 49, 3) := dk_180 0 49 (dk_at dksX0_glaze_1 5 rfl rfl)
theorem dX0_glaze_32 : decode cX0_glaze 32 = .ok (.iload_n 2, 1) := dk_28 (dk_at dksX0_glaze_1 8 rfl rfl)
theorem dX0_glaze_33 : decode cX0_glaze 33 = .ok (.aaload, 1) := dk_50 (dk_at dksX0_glaze_1 9 rfl rfl)
theorem dX0_glaze_34 : decode cX0_glaze 34 = .ok (.getfield 98, 3) := dk_180 0 98 (dk_at dksX0_glaze_1 10 rfl rfl)
theorem dX0_glaze_37 : decode cX0_glaze 37 = .ok (.ifCond .eq 6, 3) := dk_153 0 6 (dk_at dksX0_glaze_1 13 rfl rfl)
theorem dX0_glaze_40 : decode cX0_glaze 40 = .ok (.bipush (-3), 2) := dk_16 253 (dk_at dksX0_glaze_1 16 rfl rfl)
theorem dX0_glaze_42 : decode cX0_glaze 42 = .ok (.ireturn, 1) := dk_172 (dk_at dksX0_glaze_1 18 rfl rfl)
theorem dX0_glaze_43 : decode cX0_glaze 43 = .ok (.aload_n 0, 1) := dk_42 (dk_at dksX0_glaze_1 19 rfl rfl)
theorem dX0_glaze_44 : decode cX0_glaze 44 = .ok (.iload_n 1, 1) := dk_27 (dk_at dksX0_glaze_1 20 rfl rfl)
theorem dX0_glaze_45 : decode cX0_glaze 45 = .ok (.invokevirtual 102, 3) := dk_182 0 102 (dk_at dksX0_glaze_1 21 rfl rfl)
theorem dX0_glaze_48 : decode cX0_glaze 48 = .ok (.istore_n 3, 1) := dk_62 (dk_at dksX0_glaze_2 0 rfl rfl)
theorem dX0_glaze_49 : decode cX0_glaze 49 = .ok (.iload_n 3, 1) := dk_29 (dk_at dksX0_glaze_2 1 rfl rfl)
theorem dX0_glaze_50 : decode cX0_glaze 50 = .ok (.iconst (-1), 1) := dk_2 (dk_at dksX0_glaze_2 2 rfl rfl)
theorem dX0_glaze_51 : decode cX0_glaze 51 = .ok (.if_icmp .eq 13, 3) := dk_159 0 13 (dk_at dksX0_glaze_2 3 rfl rfl)
theorem dX0_glaze_54 : decode cX0_glaze 54 = .ok (.aload_n 0, 1) := dk_42 (dk_at dksX0_glaze_2 6 rfl rfl)
theorem dX0_glaze_55 : decode cX0_glaze 55 = .ok (.getfield 49, 3) := dk_180 0 49 (dk_at dksX0_glaze_2 7 rfl rfl)
theorem dX0_glaze_58 : decode cX0_glaze 58 = .ok (.iload_n 3, 1) := dk_29 (dk_at dksX0_glaze_2 10 rfl rfl)
theorem dX0_glaze_59 : decode cX0_glaze 59 = .ok (.aaload, 1) := dk_50 (dk_at dksX0_glaze_2 11 rfl rfl)
theorem dX0_glaze_60 : decode cX0_glaze 60 = .ok (.iconst (-1), 1) := dk_2 (dk_at dksX0_glaze_2 12 rfl rfl)
theorem dX0_glaze_61 : decode cX0_glaze 61 = .ok (.putfield 95, 3) := dk_181 0 95 (dk_at dksX0_glaze_2 13 rfl rfl)
theorem dX0_glaze_64 : decode cX0_glaze 64 = .ok (.iload_n 2, 1) := dk_28 (dk_at dksX0_glaze_2 16 rfl rfl)
theorem dX0_glaze_65 : decode cX0_glaze 65 = .ok (.iconst (-1), 1) := dk_2 (dk_at dksX0_glaze_2 17 rfl rfl)
theorem dX0_glaze_66 : decode cX0_glaze 66 = .ok (.if_icmp .eq 13, 3) := dk_159 0 13 (dk_at dksX0_glaze_2 18 rfl rfl)
theorem dX0_glaze_69 : decode cX0_glaze 69 = .ok (.aload_n 0, 1) := dk_42 (dk_at dksX0_glaze_2 21 rfl rfl)
theorem dX0_glaze_70 : decode cX0_glaze 70 = .ok (.getfield 49, 3) := dk_180 0 49 (dk_at dksX0_glaze_3 0 rfl rfl)
theorem dX0_glaze_73 : decode cX0_glaze 73 = .ok (.iload_n 2, 1) := dk_28 (dk_at dksX0_glaze_3 3 rfl rfl)
theorem dX0_glaze_74 : decode cX0_glaze 74 = .ok (.aaload, 1) := dk_50 (dk_at dksX0_glaze_3 4 rfl rfl)
theorem dX0_glaze_75 : decode cX0_glaze 75 = .ok (.iload_n 1, 1) := dk_27 (dk_at dksX0_glaze_3 5 rfl rfl)
theorem dX0_glaze_76 : decode cX0_glaze 76 = .ok (.putfield 95, 3) := dk_181 0 95 (dk_at dksX0_glaze_3 6 rfl rfl)
theorem dX0_glaze_79 : decode cX0_glaze 79 = .ok (.iload_n 3, 1) := dk_29 (dk_at dksX0_glaze_3 9 rfl rfl)
theorem dX0_glaze_80 : decode cX0_glaze 80 = .ok (.ireturn, 1) := dk_172 (dk_at dksX0_glaze_3 10 rfl rfl)
abbrev cX0_stone : ByteArray := prog_1_method_13_code
def yX0_stone : MethodName := ⟨RX0, "stone", "(I)I"⟩
def dkwX0_stone_2 : List UInt8 := [42, 28, 182, 0, 113, 172]
abbrev dktX0_stone_2 : List UInt8 := dkwX0_stone_2 ++ []
def dkwX0_stone_1 : List UInt8 := [180, 0, 49, 28, 50, 180, 0, 98, 153, 0, 6, 16, 253, 172, 42, 180, 0, 49, 28, 50, 4, 181, 0, 98]
abbrev dktX0_stone_1 : List UInt8 := dkwX0_stone_1 ++ dktX0_stone_2
def dkwX0_stone_0 : List UInt8 := [27, 184, 0, 59, 154, 0, 6, 16, 254, 172, 42, 27, 182, 0, 102, 61, 28, 2, 159, 0, 15, 42]
abbrev dktX0_stone_0 : List UInt8 := dkwX0_stone_0 ++ dktX0_stone_1
theorem dksX0_stone_0 : cX0_stone.data.toList.drop 0 = dktX0_stone_0 := by decide +kernel
theorem dksX0_stone_1 : cX0_stone.data.toList.drop 22 = dktX0_stone_1 := dk_seg dksX0_stone_0 22 rfl rfl
theorem dksX0_stone_2 : cX0_stone.data.toList.drop 46 = dktX0_stone_2 := dk_seg dksX0_stone_1 24 rfl rfl
theorem dX0_stone_0 : decode cX0_stone 0 = .ok (.iload_n 1, 1) := dk_27 (dk_at dksX0_stone_0 0 rfl rfl)
theorem dX0_stone_1 : decode cX0_stone 1 = .ok (.invokestatic 59, 3) := dk_184 0 59 (dk_at dksX0_stone_0 1 rfl rfl)
theorem dX0_stone_4 : decode cX0_stone 4 = .ok (.ifCond .ne 6, 3) := dk_154 0 6 (dk_at dksX0_stone_0 4 rfl rfl)
theorem dX0_stone_7 : decode cX0_stone 7 = .ok (.bipush (-2), 2) := dk_16 254 (dk_at dksX0_stone_0 7 rfl rfl)
theorem dX0_stone_9 : decode cX0_stone 9 = .ok (.ireturn, 1) := dk_172 (dk_at dksX0_stone_0 9 rfl rfl)
theorem dX0_stone_10 : decode cX0_stone 10 = .ok (.aload_n 0, 1) := dk_42 (dk_at dksX0_stone_0 10 rfl rfl)
theorem dX0_stone_11 : decode cX0_stone 11 = .ok (.iload_n 1, 1) := dk_27 (dk_at dksX0_stone_0 11 rfl rfl)
theorem dX0_stone_12 : decode cX0_stone 12 = .ok (.invokevirtual 102, 3) := dk_182 0 102 (dk_at dksX0_stone_0 12 rfl rfl)
theorem dX0_stone_15 : decode cX0_stone 15 = .ok (.istore_n 2, 1) := dk_61 (dk_at dksX0_stone_0 15 rfl rfl)
theorem dX0_stone_16 : decode cX0_stone 16 = .ok (.iload_n 2, 1) := dk_28 (dk_at dksX0_stone_0 16 rfl rfl)
theorem dX0_stone_17 : decode cX0_stone 17 = .ok (.iconst (-1), 1) := dk_2 (dk_at dksX0_stone_0 17 rfl rfl)
theorem dX0_stone_18 : decode cX0_stone 18 = .ok (.if_icmp .eq 15, 3) := dk_159 0 15 (dk_at dksX0_stone_0 18 rfl rfl)
theorem dX0_stone_21 : decode cX0_stone 21 = .ok (.aload_n 0, 1) := dk_42 (dk_at dksX0_stone_0 21 rfl rfl)
theorem dX0_stone_22 : decode cX0_stone 22 = .ok (.getfield 49, 3) := dk_180 0 49 (dk_at dksX0_stone_1 0 rfl rfl)
theorem dX0_stone_25 : decode cX0_stone 25 = .ok (.iload_n 2, 1) := dk_28 (dk_at dksX0_stone_1 3 rfl rfl)
theorem dX0_stone_26 : decode cX0_stone 26 = .ok (.aaload, 1) := dk_50 (dk_at dksX0_stone_1 4 rfl rfl)
theorem dX0_stone_27 : decode cX0_stone 27 = .ok (.getfield 98, 3) := dk_180 0 98 (dk_at dksX0_stone_1 5 rfl rfl)
theorem dX0_stone_30 : decode cX0_stone 30 = .ok (.ifCond .eq 6, 3) := dk_153 0 6 (dk_at dksX0_stone_1 8 rfl rfl)
theorem dX0_stone_33 : decode cX0_stone 33 = .ok (.bipush (-3), 2) := dk_16 253 (dk_at dksX0_stone_1 11 rfl rfl)
theorem dX0_stone_35 : decode cX0_stone 35 = .ok (.ireturn, 1) := dk_172 (dk_at dksX0_stone_1 13 rfl rfl)
theorem dX0_stone_36 : decode cX0_stone 36 = .ok (.aload_n 0, 1) := dk_42 (dk_at dksX0_stone_1 14 rfl rfl)
theorem dX0_stone_37 : decode cX0_stone 37 = .ok (.getfield 49, 3) := dk_180 0 49 (dk_at dksX0_stone_1 15 rfl rfl)
theorem dX0_stone_40 : decode cX0_stone 40 = .ok (.iload_n 2, 1) := dk_28 (dk_at dksX0_stone_1 18 rfl rfl)
theorem dX0_stone_41 : decode cX0_stone 41 = .ok (.aaload, 1) := dk_50 (dk_at dksX0_stone_1 19 rfl rfl)
theorem dX0_stone_42 : decode cX0_stone 42 = .ok (.iconst 1, 1) := dk_4 (dk_at dksX0_stone_1 20 rfl rfl)
theorem dX0_stone_43 : decode cX0_stone 43 = .ok (.putfield 98, 3) := dk_181 0 98 (dk_at dksX0_stone_1 21 rfl rfl)
theorem dX0_stone_46 : decode cX0_stone 46 = .ok (.aload_n 0, 1) := dk_42 (dk_at dksX0_stone_2 0 rfl rfl)
theorem dX0_stone_47 : decode cX0_stone 47 = .ok (.iload_n 2, 1) := dk_28 (dk_at dksX0_stone_2 1 rfl rfl)
theorem dX0_stone_48 : decode cX0_stone 48 = .ok (.invokevirtual 113, 3) := dk_182 0 113 (dk_at dksX0_stone_2 2 rfl rfl)
theorem dX0_stone_51 : decode cX0_stone 51 = .ok (.ireturn, 1) := dk_172 (dk_at dksX0_stone_2 5 rfl rfl)
abbrev cX0_spilt : ByteArray := prog_1_method_12_code
def yX0_spilt : MethodName := ⟨RX0, "spilt", "(I)I"⟩
def dkwX0_spilt_2 : List UInt8 := [167, 255, 212, 28, 172]
abbrev dktX0_spilt_2 : List UInt8 := dkwX0_spilt_2 ++ []
def dkwX0_spilt_1 : List UInt8 := [42, 180, 0, 49, 27, 50, 182, 0, 109, 163, 0, 9, 4, 29, 120, 167, 0, 4, 3, 128, 61, 132, 3, 1]
abbrev dktX0_spilt_1 : List UInt8 := dkwX0_spilt_1 ++ dktX0_spilt_2
def dkwX0_spilt_0 : List UInt8 := [3, 61, 3, 62, 29, 7, 162, 0, 45, 28, 29, 42, 180, 0, 49, 27, 50, 180, 0, 95, 100, 184, 0, 106]
abbrev dktX0_spilt_0 : List UInt8 := dkwX0_spilt_0 ++ dktX0_spilt_1
theorem dksX0_spilt_0 : cX0_spilt.data.toList.drop 0 = dktX0_spilt_0 := by decide +kernel
theorem dksX0_spilt_1 : cX0_spilt.data.toList.drop 24 = dktX0_spilt_1 := dk_seg dksX0_spilt_0 24 rfl rfl
theorem dksX0_spilt_2 : cX0_spilt.data.toList.drop 48 = dktX0_spilt_2 := dk_seg dksX0_spilt_1 24 rfl rfl
theorem dX0_spilt_0 : decode cX0_spilt 0 = .ok (.iconst 0, 1) := dk_3 (dk_at dksX0_spilt_0 0 rfl rfl)
theorem dX0_spilt_1 : decode cX0_spilt 1 = .ok (.istore_n 2, 1) := dk_61 (dk_at dksX0_spilt_0 1 rfl rfl)
theorem dX0_spilt_2 : decode cX0_spilt 2 = .ok (.iconst 0, 1) := dk_3 (dk_at dksX0_spilt_0 2 rfl rfl)
theorem dX0_spilt_3 : decode cX0_spilt 3 = .ok (.istore_n 3, 1) := dk_62 (dk_at dksX0_spilt_0 3 rfl rfl)
theorem dX0_spilt_4 : decode cX0_spilt 4 = .ok (.iload_n 3, 1) := dk_29 (dk_at dksX0_spilt_0 4 rfl rfl)
theorem dX0_spilt_5 : decode cX0_spilt 5 = .ok (.iconst 4, 1) := dk_7 (dk_at dksX0_spilt_0 5 rfl rfl)
theorem dX0_spilt_6 : decode cX0_spilt 6 = .ok (.if_icmp .ge 45, 3) := dk_162 0 45 (dk_at dksX0_spilt_0 6 rfl rfl)
theorem dX0_spilt_9 : decode cX0_spilt 9 = .ok (.iload_n 2, 1) := dk_28 (dk_at dksX0_spilt_0 9 rfl rfl)
theorem dX0_spilt_10 : decode cX0_spilt 10 = .ok (.iload_n 3, 1) := dk_29 (dk_at dksX0_spilt_0 10 rfl rfl)
theorem dX0_spilt_11 : decode cX0_spilt 11 = .ok (.aload_n 0, 1) := dk_42 (dk_at dksX0_spilt_0 11 rfl rfl)
theorem dX0_spilt_12 : decode cX0_spilt 12 = .ok (.getfield 49, 3) := dk_180 0 49 (dk_at dksX0_spilt_0 12 rfl rfl)
theorem dX0_spilt_15 : decode cX0_spilt 15 = .ok (.iload_n 1, 1) := dk_27 (dk_at dksX0_spilt_0 15 rfl rfl)
theorem dX0_spilt_16 : decode cX0_spilt 16 = .ok (.aaload, 1) := dk_50 (dk_at dksX0_spilt_0 16 rfl rfl)
theorem dX0_spilt_17 : decode cX0_spilt 17 = .ok (.getfield 95, 3) := dk_180 0 95 (dk_at dksX0_spilt_0 17 rfl rfl)
theorem dX0_spilt_20 : decode cX0_spilt 20 = .ok (.isub, 1) := dk_100 (dk_at dksX0_spilt_0 20 rfl rfl)
theorem dX0_spilt_21 : decode cX0_spilt 21 = .ok (.invokestatic 106, 3) := dk_184 0 106 (dk_at dksX0_spilt_0 21 rfl rfl)
theorem dX0_spilt_24 : decode cX0_spilt 24 = .ok (.aload_n 0, 1) := dk_42 (dk_at dksX0_spilt_1 0 rfl rfl)
theorem dX0_spilt_25 : decode cX0_spilt 25 = .ok (.getfield 49, 3) := dk_180 0 49 (dk_at dksX0_spilt_1 1 rfl rfl)
theorem dX0_spilt_28 : decode cX0_spilt 28 = .ok (.iload_n 1, 1) := dk_27 (dk_at dksX0_spilt_1 4 rfl rfl)
theorem dX0_spilt_29 : decode cX0_spilt 29 = .ok (.aaload, 1) := dk_50 (dk_at dksX0_spilt_1 5 rfl rfl)
theorem dX0_spilt_30 : decode cX0_spilt 30 = .ok (.invokevirtual 109, 3) := dk_182 0 109 (dk_at dksX0_spilt_1 6 rfl rfl)
theorem dX0_spilt_33 : decode cX0_spilt 33 = .ok (.if_icmp .gt 9, 3) := dk_163 0 9 (dk_at dksX0_spilt_1 9 rfl rfl)
theorem dX0_spilt_36 : decode cX0_spilt 36 = .ok (.iconst 1, 1) := dk_4 (dk_at dksX0_spilt_1 12 rfl rfl)
theorem dX0_spilt_37 : decode cX0_spilt 37 = .ok (.iload_n 3, 1) := dk_29 (dk_at dksX0_spilt_1 13 rfl rfl)
theorem dX0_spilt_38 : decode cX0_spilt 38 = .ok (.ishl, 1) := dk_120 (dk_at dksX0_spilt_1 14 rfl rfl)
theorem dX0_spilt_39 : decode cX0_spilt 39 = .ok (.goto 4, 3) := dk_167 0 4 (dk_at dksX0_spilt_1 15 rfl rfl)
theorem dX0_spilt_42 : decode cX0_spilt 42 = .ok (.iconst 0, 1) := dk_3 (dk_at dksX0_spilt_1 18 rfl rfl)
theorem dX0_spilt_43 : decode cX0_spilt 43 = .ok (.ior, 1) := dk_128 (dk_at dksX0_spilt_1 19 rfl rfl)
theorem dX0_spilt_44 : decode cX0_spilt 44 = .ok (.istore_n 2, 1) := dk_61 (dk_at dksX0_spilt_1 20 rfl rfl)
theorem dX0_spilt_45 : decode cX0_spilt 45 = .ok (.iinc 3 1, 3) := dk_132 3 1 (dk_at dksX0_spilt_1 21 rfl rfl)
theorem dX0_spilt_48 : decode cX0_spilt 48 = .ok (.goto (-44), 3) := dk_167 255 212 (dk_at dksX0_spilt_2 0 rfl rfl)
theorem dX0_spilt_51 : decode cX0_spilt 51 = .ok (.iload_n 2, 1) := dk_28 (dk_at dksX0_spilt_2 3 rfl rfl)
theorem dX0_spilt_52 : decode cX0_spilt 52 = .ok (.ireturn, 1) := dk_172 (dk_at dksX0_spilt_2 4 rfl rfl)
abbrev cX0_feed : ByteArray := prog_1_method_35_code
def yX0_feed : MethodName := ⟨RX0, "feed", "(I)I"⟩
def dkwX0_feed_2 : List UInt8 := [181, 1, 3, 42, 180, 1, 3, 172]
abbrev dktX0_feed_2 : List UInt8 := dkwX0_feed_2 ++ []
def dkwX0_feed_1 : List UInt8 := [160, 0, 6, 16, 252, 172, 42, 180, 0, 133, 42, 180, 1, 3, 27, 145, 84, 42, 89, 180, 1, 3, 4, 96]
abbrev dktX0_feed_1 : List UInt8 := dkwX0_feed_1 ++ dktX0_feed_2
def dkwX0_feed_0 : List UInt8 := [27, 133, 9, 20, 1, 20, 184, 0, 14, 154, 0, 6, 16, 254, 172, 42, 180, 1, 3, 17, 0, 160]
abbrev dktX0_feed_0 : List UInt8 := dkwX0_feed_0 ++ dktX0_feed_1
theorem dksX0_feed_0 : cX0_feed.data.toList.drop 0 = dktX0_feed_0 := by decide +kernel
theorem dksX0_feed_1 : cX0_feed.data.toList.drop 22 = dktX0_feed_1 := dk_seg dksX0_feed_0 22 rfl rfl
theorem dksX0_feed_2 : cX0_feed.data.toList.drop 46 = dktX0_feed_2 := dk_seg dksX0_feed_1 24 rfl rfl
theorem dX0_feed_0 : decode cX0_feed 0 = .ok (.iload_n 1, 1) := dk_27 (dk_at dksX0_feed_0 0 rfl rfl)
theorem dX0_feed_1 : decode cX0_feed 1 = .ok (.i2l, 1) := dk_133 (dk_at dksX0_feed_0 1 rfl rfl)
theorem dX0_feed_2 : decode cX0_feed 2 = .ok (.lconst 0, 1) := dk_9 (dk_at dksX0_feed_0 2 rfl rfl)
theorem dX0_feed_3 : decode cX0_feed 3 = .ok (.ldc2_w 276, 3) := dk_20 1 20 (dk_at dksX0_feed_0 3 rfl rfl)
theorem dX0_feed_6 : decode cX0_feed 6 = .ok (.invokestatic 14, 3) := dk_184 0 14 (dk_at dksX0_feed_0 6 rfl rfl)
theorem dX0_feed_9 : decode cX0_feed 9 = .ok (.ifCond .ne 6, 3) := dk_154 0 6 (dk_at dksX0_feed_0 9 rfl rfl)
theorem dX0_feed_12 : decode cX0_feed 12 = .ok (.bipush (-2), 2) := dk_16 254 (dk_at dksX0_feed_0 12 rfl rfl)
theorem dX0_feed_14 : decode cX0_feed 14 = .ok (.ireturn, 1) := dk_172 (dk_at dksX0_feed_0 14 rfl rfl)
theorem dX0_feed_15 : decode cX0_feed 15 = .ok (.aload_n 0, 1) := dk_42 (dk_at dksX0_feed_0 15 rfl rfl)
theorem dX0_feed_16 : decode cX0_feed 16 = .ok (.getfield 259, 3) := dk_180 1 3 (dk_at dksX0_feed_0 16 rfl rfl)
theorem dX0_feed_19 : decode cX0_feed 19 = .ok (.sipush 160, 3) := dk_17 0 160 (dk_at dksX0_feed_0 19 rfl rfl)
theorem dX0_feed_22 : decode cX0_feed 22 = .ok (.if_icmp .ne 6, 3) := dk_160 0 6 (dk_at dksX0_feed_1 0 rfl rfl)
theorem dX0_feed_25 : decode cX0_feed 25 = .ok (.bipush (-4), 2) := dk_16 252 (dk_at dksX0_feed_1 3 rfl rfl)
theorem dX0_feed_27 : decode cX0_feed 27 = .ok (.ireturn, 1) := dk_172 (dk_at dksX0_feed_1 5 rfl rfl)
theorem dX0_feed_28 : decode cX0_feed 28 = .ok (.aload_n 0, 1) := dk_42 (dk_at dksX0_feed_1 6 rfl rfl)
theorem dX0_feed_29 : decode cX0_feed 29 = .ok (.getfield 133, 3) := dk_180 0 133 (dk_at dksX0_feed_1 7 rfl rfl)
theorem dX0_feed_32 : decode cX0_feed 32 = .ok (.aload_n 0, 1) := dk_42 (dk_at dksX0_feed_1 10 rfl rfl)
theorem dX0_feed_33 : decode cX0_feed 33 = .ok (.getfield 259, 3) := dk_180 1 3 (dk_at dksX0_feed_1 11 rfl rfl)
theorem dX0_feed_36 : decode cX0_feed 36 = .ok (.iload_n 1, 1) := dk_27 (dk_at dksX0_feed_1 14 rfl rfl)
theorem dX0_feed_37 : decode cX0_feed 37 = .ok (.i2b, 1) := dk_145 (dk_at dksX0_feed_1 15 rfl rfl)
theorem dX0_feed_38 : decode cX0_feed 38 = .ok (.bastore, 1) := dk_84 (dk_at dksX0_feed_1 16 rfl rfl)
theorem dX0_feed_39 : decode cX0_feed 39 = .ok (.aload_n 0, 1) := dk_42 (dk_at dksX0_feed_1 17 rfl rfl)
theorem dX0_feed_40 : decode cX0_feed 40 = .ok (.dup, 1) := dk_89 (dk_at dksX0_feed_1 18 rfl rfl)
theorem dX0_feed_41 : decode cX0_feed 41 = .ok (.getfield 259, 3) := dk_180 1 3 (dk_at dksX0_feed_1 19 rfl rfl)
theorem dX0_feed_44 : decode cX0_feed 44 = .ok (.iconst 1, 1) := dk_4 (dk_at dksX0_feed_1 22 rfl rfl)
theorem dX0_feed_45 : decode cX0_feed 45 = .ok (.iadd, 1) := dk_96 (dk_at dksX0_feed_1 23 rfl rfl)
theorem dX0_feed_46 : decode cX0_feed 46 = .ok (.putfield 259, 3) := dk_181 1 3 (dk_at dksX0_feed_2 0 rfl rfl)
theorem dX0_feed_49 : decode cX0_feed 49 = .ok (.aload_n 0, 1) := dk_42 (dk_at dksX0_feed_2 3 rfl rfl)
theorem dX0_feed_50 : decode cX0_feed 50 = .ok (.getfield 259, 3) := dk_180 1 3 (dk_at dksX0_feed_2 4 rfl rfl)
theorem dX0_feed_53 : decode cX0_feed 53 = .ok (.ireturn, 1) := dk_172 (dk_at dksX0_feed_2 7 rfl rfl)
abbrev cX0_text : ByteArray := prog_1_method_36_code
def yX0_text : MethodName := ⟨RX0, "text", "()I"⟩
def dkwX0_text_0 : List UInt8 := [42, 180, 1, 14, 16, 6, 160, 0, 8, 16, 252, 167, 0, 7, 42, 182, 1, 17, 172]
abbrev dktX0_text_0 : List UInt8 := dkwX0_text_0 ++ []
theorem dksX0_text_0 : cX0_text.data.toList.drop 0 = dktX0_text_0 := by decide +kernel
theorem dX0_text_0 : decode cX0_text 0 = .ok (.aload_n 0, 1) := dk_42 (dk_at dksX0_text_0 0 rfl rfl)
theorem dX0_text_1 : decode cX0_text 1 = .ok (.getfield 270, 3) := dk_180 1 14 (dk_at dksX0_text_0 1 rfl rfl)
theorem dX0_text_4 : decode cX0_text 4 = .ok (.bipush 6, 2) := dk_16 6 (dk_at dksX0_text_0 4 rfl rfl)
theorem dX0_text_6 : decode cX0_text 6 = .ok (.if_icmp .ne 8, 3) := dk_160 0 8 (dk_at dksX0_text_0 6 rfl rfl)
theorem dX0_text_9 : decode cX0_text 9 = .ok (.bipush (-4), 2) := dk_16 252 (dk_at dksX0_text_0 9 rfl rfl)
theorem dX0_text_11 : decode cX0_text 11 = .ok (.goto 7, 3) := dk_167 0 7 (dk_at dksX0_text_0 11 rfl rfl)
theorem dX0_text_14 : decode cX0_text 14 = .ok (.aload_n 0, 1) := dk_42 (dk_at dksX0_text_0 14 rfl rfl)
theorem dX0_text_15 : decode cX0_text 15 = .ok (.invokevirtual 273, 3) := dk_182 1 17 (dk_at dksX0_text_0 15 rfl rfl)
theorem dX0_text_18 : decode cX0_text 18 = .ok (.ireturn, 1) := dk_172 (dk_at dksX0_text_0 18 rfl rfl)
abbrev cX0_newText : ByteArray := prog_1_method_33_code
def yX0_newText : MethodName := ⟨RX0, "newText", "()I"⟩
def dkwX0_newText_5 : List UInt8 := [100, 172]
abbrev dktX0_newText_5 : List UInt8 := dkwX0_newText_5 ++ []
def dkwX0_newText_4 : List UInt8 := [180, 1, 10, 42, 180, 1, 14, 43, 83, 42, 89, 180, 1, 14, 4, 96, 181, 1, 14, 42, 180, 1, 14, 4]
abbrev dktX0_newText_4 : List UInt8 := dkwX0_newText_4 ++ dktX0_newText_5
def dkwX0_newText_3 : List UInt8 := [180, 0, 154, 153, 0, 8, 42, 180, 0, 180, 191, 167, 0, 12, 77, 16, 156, 42, 180, 0, 151, 100, 172, 42]
abbrev dktX0_newText_3 : List UInt8 := dkwX0_newText_3 ++ dktX0_newText_4
def dkwX0_newText_2 : List UInt8 := [43, 28, 42, 182, 1, 0, 83, 42, 42, 16, 59, 182, 0, 237, 182, 0, 207, 132, 2, 1, 167, 255, 222, 42]
abbrev dktX0_newText_2 : List UInt8 := dkwX0_newText_2 ++ dktX0_newText_3
def dkwX0_newText_1 : List UInt8 := [189, 1, 6, 76, 42, 182, 0, 201, 3, 61, 28, 6, 162, 0, 35, 42, 42, 28, 182, 0, 215, 182, 0, 207]
abbrev dktX0_newText_1 : List UInt8 := dkwX0_newText_1 ++ dktX0_newText_2
def dkwX0_newText_0 : List UInt8 := [42, 42, 180, 1, 3, 181, 0, 130, 42, 3, 181, 1, 3, 42, 3, 181, 0, 145, 42, 3, 181, 0, 204, 6]
abbrev dktX0_newText_0 : List UInt8 := dkwX0_newText_0 ++ dktX0_newText_1
theorem dksX0_newText_0 : cX0_newText.data.toList.drop 0 = dktX0_newText_0 := by decide +kernel
theorem dksX0_newText_1 : cX0_newText.data.toList.drop 24 = dktX0_newText_1 := dk_seg dksX0_newText_0 24 rfl rfl
theorem dksX0_newText_2 : cX0_newText.data.toList.drop 48 = dktX0_newText_2 := dk_seg dksX0_newText_1 24 rfl rfl
theorem dksX0_newText_3 : cX0_newText.data.toList.drop 72 = dktX0_newText_3 := dk_seg dksX0_newText_2 24 rfl rfl
theorem dksX0_newText_4 : cX0_newText.data.toList.drop 96 = dktX0_newText_4 := dk_seg dksX0_newText_3 24 rfl rfl
theorem dksX0_newText_5 : cX0_newText.data.toList.drop 120 = dktX0_newText_5 := dk_seg dksX0_newText_4 24 rfl rfl
theorem dX0_newText_0 : decode cX0_newText 0 = .ok (.aload_n 0, 1) := dk_42 (dk_at dksX0_newText_0 0 rfl rfl)
theorem dX0_newText_1 : decode cX0_newText 1 = .ok (.aload_n 0, 1) := dk_42 (dk_at dksX0_newText_0 1 rfl rfl)
theorem dX0_newText_2 : decode cX0_newText 2 = .ok (.getfield 259, 3) := dk_180 1 3 (dk_at dksX0_newText_0 2 rfl rfl)
theorem dX0_newText_5 : decode cX0_newText 5 = .ok (.putfield 130, 3) := dk_181 0 130 (dk_at dksX0_newText_0 5 rfl rfl)
theorem dX0_newText_8 : decode cX0_newText 8 = .ok (.aload_n 0, 1) := dk_42 (dk_at dksX0_newText_0 8 rfl rfl)
theorem dX0_newText_9 : decode cX0_newText 9 = .ok (.iconst 0, 1) := dk_3 (dk_at dksX0_newText_0 9 rfl rfl)
theorem dX0_newText_10 : decode cX0_newText 10 = .ok (.putfield 259, 3) := dk_181 1 3 (dk_at dksX0_newText_0 10 rfl rfl)
theorem dX0_newText_13 : decode cX0_newText 13 = .ok (.aload_n 0, 1) := dk_42 (dk_at dksX0_newText_0 13 rfl rfl)
theorem dX0_newText_14 : decode cX0_newText 14 = .ok (.iconst 0, 1) := dk_3 (dk_at dksX0_newText_0 14 rfl rfl)
theorem dX0_newText_15 : decode cX0_newText 15 = .ok (.putfield 145, 3) := dk_181 0 145 (dk_at dksX0_newText_0 15 rfl rfl)
theorem dX0_newText_18 : decode cX0_newText 18 = .ok (.aload_n 0, 1) := dk_42 (dk_at dksX0_newText_0 18 rfl rfl)
theorem dX0_newText_19 : decode cX0_newText 19 = .ok (.iconst 0, 1) := dk_3 (dk_at dksX0_newText_0 19 rfl rfl)
theorem dX0_newText_20 : decode cX0_newText 20 = .ok (.putfield 204, 3) := dk_181 0 204 (dk_at dksX0_newText_0 20 rfl rfl)
theorem dX0_newText_23 : decode cX0_newText 23 = .ok (.iconst 3, 1) := dk_6 (dk_at dksX0_newText_0 23 rfl rfl)
theorem dX0_newText_24 : decode cX0_newText 24 = .ok (.anewarray 262, 3) := dk_189 1 6 (dk_at dksX0_newText_1 0 rfl rfl)
theorem dX0_newText_27 : decode cX0_newText 27 = .ok (.astore_n 1, 1) := dk_76 (dk_at dksX0_newText_1 3 rfl rfl)
theorem dX0_newText_28 : decode cX0_newText 28 = .ok (.aload_n 0, 1) := dk_42 (dk_at dksX0_newText_1 4 rfl rfl)
theorem dX0_newText_29 : decode cX0_newText 29 = .ok (.invokevirtual 201, 3) := dk_182 0 201 (dk_at dksX0_newText_1 5 rfl rfl)
theorem dX0_newText_32 : decode cX0_newText 32 = .ok (.iconst 0, 1) := dk_3 (dk_at dksX0_newText_1 8 rfl rfl)
theorem dX0_newText_33 : decode cX0_newText 33 = .ok (.istore_n 2, 1) := dk_61 (dk_at dksX0_newText_1 9 rfl rfl)
theorem dX0_newText_34 : decode cX0_newText 34 = .ok (.iload_n 2, 1) := dk_28 (dk_at dksX0_newText_1 10 rfl rfl)
theorem dX0_newText_35 : decode cX0_newText 35 = .ok (.iconst 3, 1) := dk_6 (dk_at dksX0_newText_1 11 rfl rfl)
theorem dX0_newText_36 : decode cX0_newText 36 = .ok (.if_icmp .ge 35, 3) := dk_162 0 35 (dk_at dksX0_newText_1 12 rfl rfl)
theorem dX0_newText_39 : decode cX0_newText 39 = .ok (.aload_n 0, 1) := dk_42 (dk_at dksX0_newText_1 15 rfl rfl)
theorem dX0_newText_40 : decode cX0_newText 40 = .ok (.aload_n 0, 1) := dk_42 (dk_at dksX0_newText_1 16 rfl rfl)
theorem dX0_newText_41 : decode cX0_newText 41 = .ok (.iload_n 2, 1) := dk_28 (dk_at dksX0_newText_1 17 rfl rfl)
theorem dX0_newText_42 : decode cX0_newText 42 = .ok (.invokevirtual 215, 3) := dk_182 0 215 (dk_at dksX0_newText_1 18 rfl rfl)
theorem dX0_newText_45 : decode cX0_newText 45 = .ok (.invokevirtual 207, 3) := dk_182 0 207 (dk_at dksX0_newText_1 21 rfl rfl)
theorem dX0_newText_48 : decode cX0_newText 48 = .ok (.aload_n 1, 1) := dk_43 (dk_at dksX0_newText_2 0 rfl rfl)
theorem dX0_newText_49 : decode cX0_newText 49 = .ok (.iload_n 2, 1) := dk_28 (dk_at dksX0_newText_2 1 rfl rfl)
theorem dX0_newText_50 : decode cX0_newText 50 = .ok (.aload_n 0, 1) := dk_42 (dk_at dksX0_newText_2 2 rfl rfl)
theorem dX0_newText_51 : decode cX0_newText 51 = .ok (.invokevirtual 256, 3) := dk_182 1 0 (dk_at dksX0_newText_2 3 rfl rfl)
theorem dX0_newText_54 : decode cX0_newText 54 = .ok (.aastore, 1) := dk_83 (dk_at dksX0_newText_2 6 rfl rfl)
theorem dX0_newText_55 : decode cX0_newText 55 = .ok (.aload_n 0, 1) := dk_42 (dk_at dksX0_newText_2 7 rfl rfl)
theorem dX0_newText_56 : decode cX0_newText 56 = .ok (.aload_n 0, 1) := dk_42 (dk_at dksX0_newText_2 8 rfl rfl)
theorem dX0_newText_57 : decode cX0_newText 57 = .ok (.bipush 59, 2) := dk_16 59 (dk_at dksX0_newText_2 9 rfl rfl)
theorem dX0_newText_59 : decode cX0_newText 59 = .ok (.invokevirtual 237, 3) := dk_182 0 237 (dk_at dksX0_newText_2 11 rfl rfl)
theorem dX0_newText_62 : decode cX0_newText 62 = .ok (.invokevirtual 207, 3) := dk_182 0 207 (dk_at dksX0_newText_2 14 rfl rfl)
theorem dX0_newText_65 : decode cX0_newText 65 = .ok (.iinc 2 1, 3) := dk_132 2 1 (dk_at dksX0_newText_2 17 rfl rfl)
theorem dX0_newText_68 : decode cX0_newText 68 = .ok (.goto (-34), 3) := dk_167 255 222 (dk_at dksX0_newText_2 20 rfl rfl)
theorem dX0_newText_71 : decode cX0_newText 71 = .ok (.aload_n 0, 1) := dk_42 (dk_at dksX0_newText_2 23 rfl rfl)
theorem dX0_newText_72 : decode cX0_newText 72 = .ok (.getfield 154, 3) := dk_180 0 154 (dk_at dksX0_newText_3 0 rfl rfl)
theorem dX0_newText_75 : decode cX0_newText 75 = .ok (.ifCond .eq 8, 3) := dk_153 0 8 (dk_at dksX0_newText_3 3 rfl rfl)
theorem dX0_newText_78 : decode cX0_newText 78 = .ok (.aload_n 0, 1) := dk_42 (dk_at dksX0_newText_3 6 rfl rfl)
theorem dX0_newText_79 : decode cX0_newText 79 = .ok (.getfield 180, 3) := dk_180 0 180 (dk_at dksX0_newText_3 7 rfl rfl)
theorem dX0_newText_82 : decode cX0_newText 82 = .ok (.athrow, 1) := dk_191 (dk_at dksX0_newText_3 10 rfl rfl)
theorem dX0_newText_83 : decode cX0_newText 83 = .ok (.goto 12, 3) := dk_167 0 12 (dk_at dksX0_newText_3 11 rfl rfl)
theorem dX0_newText_86 : decode cX0_newText 86 = .ok (.astore_n 2, 1) := dk_77 (dk_at dksX0_newText_3 14 rfl rfl)
theorem dX0_newText_87 : decode cX0_newText 87 = .ok (.bipush (-100), 2) := dk_16 156 (dk_at dksX0_newText_3 15 rfl rfl)
theorem dX0_newText_89 : decode cX0_newText 89 = .ok (.aload_n 0, 1) := dk_42 (dk_at dksX0_newText_3 17 rfl rfl)
theorem dX0_newText_90 : decode cX0_newText 90 = .ok (.getfield 151, 3) := dk_180 0 151 (dk_at dksX0_newText_3 18 rfl rfl)
theorem dX0_newText_93 : decode cX0_newText 93 = .ok (.isub, 1) := dk_100 (dk_at dksX0_newText_3 21 rfl rfl)
theorem dX0_newText_94 : decode cX0_newText 94 = .ok (.ireturn, 1) := dk_172 (dk_at dksX0_newText_3 22 rfl rfl)
theorem dX0_newText_95 : decode cX0_newText 95 = .ok (.aload_n 0, 1) := dk_42 (dk_at dksX0_newText_3 23 rfl rfl)
theorem dX0_newText_96 : decode cX0_newText 96 = .ok (.getfield 266, 3) := dk_180 1 10 (dk_at dksX0_newText_4 0 rfl rfl)
theorem dX0_newText_99 : decode cX0_newText 99 = .ok (.aload_n 0, 1) := dk_42 (dk_at dksX0_newText_4 3 rfl rfl)
theorem dX0_newText_100 : decode cX0_newText 100 = .ok (.getfield 270, 3) := dk_180 1 14 (dk_at dksX0_newText_4 4 rfl rfl)
theorem dX0_newText_103 : decode cX0_newText 103 = .ok (.aload_n 1, 1) := dk_43 (dk_at dksX0_newText_4 7 rfl rfl)
theorem dX0_newText_104 : decode cX0_newText 104 = .ok (.aastore, 1) := dk_83 (dk_at dksX0_newText_4 8 rfl rfl)
theorem dX0_newText_105 : decode cX0_newText 105 = .ok (.aload_n 0, 1) := dk_42 (dk_at dksX0_newText_4 9 rfl rfl)
theorem dX0_newText_106 : decode cX0_newText 106 = .ok (.dup, 1) := dk_89 (dk_at dksX0_newText_4 10 rfl rfl)
theorem dX0_newText_107 : decode cX0_newText 107 = .ok (.getfield 270, 3) := dk_180 1 14 (dk_at dksX0_newText_4 11 rfl rfl)
theorem dX0_newText_110 : decode cX0_newText 110 = .ok (.iconst 1, 1) := dk_4 (dk_at dksX0_newText_4 14 rfl rfl)
theorem dX0_newText_111 : decode cX0_newText 111 = .ok (.iadd, 1) := dk_96 (dk_at dksX0_newText_4 15 rfl rfl)
theorem dX0_newText_112 : decode cX0_newText 112 = .ok (.putfield 270, 3) := dk_181 1 14 (dk_at dksX0_newText_4 16 rfl rfl)
theorem dX0_newText_115 : decode cX0_newText 115 = .ok (.aload_n 0, 1) := dk_42 (dk_at dksX0_newText_4 19 rfl rfl)
theorem dX0_newText_116 : decode cX0_newText 116 = .ok (.getfield 270, 3) := dk_180 1 14 (dk_at dksX0_newText_4 20 rfl rfl)
theorem dX0_newText_119 : decode cX0_newText 119 = .ok (.iconst 1, 1) := dk_4 (dk_at dksX0_newText_4 23 rfl rfl)
theorem dX0_newText_120 : decode cX0_newText 120 = .ok (.isub, 1) := dk_100 (dk_at dksX0_newText_5 0 rfl rfl)
theorem dX0_newText_121 : decode cX0_newText 121 = .ok (.ireturn, 1) := dk_172 (dk_at dksX0_newText_5 1 rfl rfl)
abbrev cX0_next : ByteArray := prog_1_method_19_code
def yX0_next : MethodName := ⟨RX0, "next", "()V"⟩
def dkwX0_next_5 : List UInt8 := [18, 173, 27, 182, 0, 175, 156, 0, 8, 42, 180, 0, 180, 191, 177]
abbrev dktX0_next_5 : List UInt8 := dkwX0_next_5 ++ []
def dkwX0_next_4 : List UInt8 := [167, 0, 37, 42, 7, 181, 0, 154, 42, 27, 181, 0, 170, 42, 89, 180, 0, 145, 4, 96, 181, 0, 145]
abbrev dktX0_next_4 : List UInt8 := dkwX0_next_4 ++ dktX0_next_5
def dkwX0_next_3 : List UInt8 := [184, 0, 157, 153, 0, 10, 42, 182, 0, 160, 167, 0, 51, 27, 184, 0, 164, 153, 0, 10, 42, 182, 0, 167]
abbrev dktX0_next_3 : List UInt8 := dkwX0_next_3 ++ dktX0_next_4
def dkwX0_next_2 : List UInt8 := [42, 42, 180, 0, 145, 182, 0, 148, 60, 27, 2, 160, 0, 11, 42, 3, 181, 0, 154, 167, 0, 65, 27]
abbrev dktX0_next_2 : List UInt8 := dkwX0_next_2 ++ dktX0_next_3
def dkwX0_next_1 : List UInt8 := [160, 0, 16, 42, 89, 180, 0, 145, 4, 96, 181, 0, 145, 167, 255, 220, 42, 42, 180, 0, 145, 181, 0, 151]
abbrev dktX0_next_1 : List UInt8 := dkwX0_next_1 ++ dktX0_next_2
def dkwX0_next_0 : List UInt8 := [42, 42, 180, 0, 145, 182, 0, 148, 16, 32, 159, 0, 16, 42, 42, 180, 0, 145, 182, 0, 148, 16, 10]
abbrev dktX0_next_0 : List UInt8 := dkwX0_next_0 ++ dktX0_next_1
theorem dksX0_next_0 : cX0_next.data.toList.drop 0 = dktX0_next_0 := by decide +kernel
theorem dksX0_next_1 : cX0_next.data.toList.drop 23 = dktX0_next_1 := dk_seg dksX0_next_0 23 rfl rfl
theorem dksX0_next_2 : cX0_next.data.toList.drop 47 = dktX0_next_2 := dk_seg dksX0_next_1 24 rfl rfl
theorem dksX0_next_3 : cX0_next.data.toList.drop 70 = dktX0_next_3 := dk_seg dksX0_next_2 23 rfl rfl
theorem dksX0_next_4 : cX0_next.data.toList.drop 94 = dktX0_next_4 := dk_seg dksX0_next_3 24 rfl rfl
theorem dksX0_next_5 : cX0_next.data.toList.drop 117 = dktX0_next_5 := dk_seg dksX0_next_4 23 rfl rfl
theorem dX0_next_0 : decode cX0_next 0 = .ok (.aload_n 0, 1) := dk_42 (dk_at dksX0_next_0 0 rfl rfl)
theorem dX0_next_1 : decode cX0_next 1 = .ok (.aload_n 0, 1) := dk_42 (dk_at dksX0_next_0 1 rfl rfl)
theorem dX0_next_2 : decode cX0_next 2 = .ok (.getfield 145, 3) := dk_180 0 145 (dk_at dksX0_next_0 2 rfl rfl)
theorem dX0_next_5 : decode cX0_next 5 = .ok (.invokevirtual 148, 3) := dk_182 0 148 (dk_at dksX0_next_0 5 rfl rfl)
theorem dX0_next_8 : decode cX0_next 8 = .ok (.bipush 32, 2) := dk_16 32 (dk_at dksX0_next_0 8 rfl rfl)
theorem dX0_next_10 : decode cX0_next 10 = .ok (.if_icmp .eq 16, 3) := dk_159 0 16 (dk_at dksX0_next_0 10 rfl rfl)
theorem dX0_next_13 : decode cX0_next 13 = .ok (.aload_n 0, 1) := dk_42 (dk_at dksX0_next_0 13 rfl rfl)
theorem dX0_next_14 : decode cX0_next 14 = .ok (.aload_n 0, 1) := dk_42 (dk_at dksX0_next_0 14 rfl rfl)
theorem dX0_next_15 : decode cX0_next 15 = .ok (.getfield 145, 3) := dk_180 0 145 (dk_at dksX0_next_0 15 rfl rfl)
theorem dX0_next_18 : decode cX0_next 18 = .ok (.invokevirtual 148, 3) := dk_182 0 148 (dk_at dksX0_next_0 18 rfl rfl)
theorem dX0_next_21 : decode cX0_next 21 = .ok (.bipush 10, 2) := dk_16 10 (dk_at dksX0_next_0 21 rfl rfl)
theorem dX0_next_23 : decode cX0_next 23 = .ok (.if_icmp .ne 16, 3) := dk_160 0 16 (dk_at dksX0_next_1 0 rfl rfl)
theorem dX0_next_26 : decode cX0_next 26 = .ok (.aload_n 0, 1) := dk_42 (dk_at dksX0_next_1 3 rfl rfl)
theorem dX0_next_27 : decode cX0_next 27 = .ok (.dup, 1) := dk_89 (dk_at dksX0_next_1 4 rfl rfl)
theorem dX0_next_28 : decode cX0_next 28 = .ok (.getfield 145, 3) := dk_180 0 145 (dk_at dksX0_next_1 5 rfl rfl)
theorem dX0_next_31 : decode cX0_next 31 = .ok (.iconst 1, 1) := dk_4 (dk_at dksX0_next_1 8 rfl rfl)
theorem dX0_next_32 : decode cX0_next 32 = .ok (.iadd, 1) := dk_96 (dk_at dksX0_next_1 9 rfl rfl)
theorem dX0_next_33 : decode cX0_next 33 = .ok (.putfield 145, 3) := dk_181 0 145 (dk_at dksX0_next_1 10 rfl rfl)
theorem dX0_next_36 : decode cX0_next 36 = .ok (.goto (-36), 3) := dk_167 255 220 (dk_at dksX0_next_1 13 rfl rfl)
theorem dX0_next_39 : decode cX0_next 39 = .ok (.aload_n 0, 1) := dk_42 (dk_at dksX0_next_1 16 rfl rfl)
theorem dX0_next_40 : decode cX0_next 40 = .ok (.aload_n 0, 1) := dk_42 (dk_at dksX0_next_1 17 rfl rfl)
theorem dX0_next_41 : decode cX0_next 41 = .ok (.getfield 145, 3) := dk_180 0 145 (dk_at dksX0_next_1 18 rfl rfl)
theorem dX0_next_44 : decode cX0_next 44 = .ok (.putfield 151, 3) := dk_181 0 151 (dk_at dksX0_next_1 21 rfl rfl)
theorem dX0_next_47 : decode cX0_next 47 = .ok (.aload_n 0, 1) := dk_42 (dk_at dksX0_next_2 0 rfl rfl)
theorem dX0_next_48 : decode cX0_next 48 = .ok (.aload_n 0, 1) := dk_42 (dk_at dksX0_next_2 1 rfl rfl)
theorem dX0_next_49 : decode cX0_next 49 = .ok (.getfield 145, 3) := dk_180 0 145 (dk_at dksX0_next_2 2 rfl rfl)
theorem dX0_next_52 : decode cX0_next 52 = .ok (.invokevirtual 148, 3) := dk_182 0 148 (dk_at dksX0_next_2 5 rfl rfl)
theorem dX0_next_55 : decode cX0_next 55 = .ok (.istore_n 1, 1) := dk_60 (dk_at dksX0_next_2 8 rfl rfl)
theorem dX0_next_56 : decode cX0_next 56 = .ok (.iload_n 1, 1) := dk_27 (dk_at dksX0_next_2 9 rfl rfl)
theorem dX0_next_57 : decode cX0_next 57 = .ok (.iconst (-1), 1) := dk_2 (dk_at dksX0_next_2 10 rfl rfl)
theorem dX0_next_58 : decode cX0_next 58 = .ok (.if_icmp .ne 11, 3) := dk_160 0 11 (dk_at dksX0_next_2 11 rfl rfl)
theorem dX0_next_61 : decode cX0_next 61 = .ok (.aload_n 0, 1) := dk_42 (dk_at dksX0_next_2 14 rfl rfl)
theorem dX0_next_62 : decode cX0_next 62 = .ok (.iconst 0, 1) := dk_3 (dk_at dksX0_next_2 15 rfl rfl)
theorem dX0_next_63 : decode cX0_next 63 = .ok (.putfield 154, 3) := dk_181 0 154 (dk_at dksX0_next_2 16 rfl rfl)
theorem dX0_next_66 : decode cX0_next 66 = .ok (.goto 65, 3) := dk_167 0 65 (dk_at dksX0_next_2 19 rfl rfl)
theorem dX0_next_69 : decode cX0_next 69 = .ok (.iload_n 1, 1) := dk_27 (dk_at dksX0_next_2 22 rfl rfl)
theorem dX0_next_70 : decode cX0_next 70 = .ok (.invokestatic 157, 3) := dk_184 0 157 (dk_at dksX0_next_3 0 rfl rfl)
theorem dX0_next_73 : decode cX0_next 73 = .ok (.ifCond .eq 10, 3) := dk_153 0 10 (dk_at dksX0_next_3 3 rfl rfl)
theorem dX0_next_76 : decode cX0_next 76 = .ok (.aload_n 0, 1) := dk_42 (dk_at dksX0_next_3 6 rfl rfl)
theorem dX0_next_77 : decode cX0_next 77 = .ok (.invokevirtual 160, 3) := dk_182 0 160 (dk_at dksX0_next_3 7 rfl rfl)
theorem dX0_next_80 : decode cX0_next 80 = .ok (.goto 51, 3) := dk_167 0 51 (dk_at dksX0_next_3 10 rfl rfl)
theorem dX0_next_83 : decode cX0_next 83 = .ok (.iload_n 1, 1) := dk_27 (dk_at dksX0_next_3 13 rfl rfl)
theorem dX0_next_84 : decode cX0_next 84 = .ok (.invokestatic 164, 3) := dk_184 0 164 (dk_at dksX0_next_3 14 rfl rfl)
theorem dX0_next_87 : decode cX0_next 87 = .ok (.ifCond .eq 10, 3) := dk_153 0 10 (dk_at dksX0_next_3 17 rfl rfl)
theorem dX0_next_90 : decode cX0_next 90 = .ok (.aload_n 0, 1) := dk_42 (dk_at dksX0_next_3 20 rfl rfl)
theorem dX0_next_91 : decode cX0_next 91 = .ok (.invokevirtual 167, 3) := dk_182 0 167 (dk_at dksX0_next_3 21 rfl rfl)
theorem dX0_next_94 : decode cX0_next 94 = .ok (.goto 37, 3) := dk_167 0 37 (dk_at dksX0_next_4 0 rfl rfl)
theorem dX0_next_97 : decode cX0_next 97 = .ok (.aload_n 0, 1) := dk_42 (dk_at dksX0_next_4 3 rfl rfl)
theorem dX0_next_98 : decode cX0_next 98 = .ok (.iconst 4, 1) := dk_7 (dk_at dksX0_next_4 4 rfl rfl)
theorem dX0_next_99 : decode cX0_next 99 = .ok (.putfield 154, 3) := dk_181 0 154 (dk_at dksX0_next_4 5 rfl rfl)
theorem dX0_next_102 : decode cX0_next 102 = .ok (.aload_n 0, 1) := dk_42 (dk_at dksX0_next_4 8 rfl rfl)
theorem dX0_next_103 : decode cX0_next 103 = .ok (.iload_n 1, 1) := dk_27 (dk_at dksX0_next_4 9 rfl rfl)
theorem dX0_next_104 : decode cX0_next 104 = .ok (.putfield 170, 3) := dk_181 0 170 (dk_at dksX0_next_4 10 rfl rfl)
theorem dX0_next_107 : decode cX0_next 107 = .ok (.aload_n 0, 1) := dk_42 (dk_at dksX0_next_4 13 rfl rfl)
theorem dX0_next_108 : decode cX0_next 108 = .ok (.dup, 1) := dk_89 (dk_at dksX0_next_4 14 rfl rfl)
theorem dX0_next_109 : decode cX0_next 109 = .ok (.getfield 145, 3) := dk_180 0 145 (dk_at dksX0_next_4 15 rfl rfl)
theorem dX0_next_112 : decode cX0_next 112 = .ok (.iconst 1, 1) := dk_4 (dk_at dksX0_next_4 18 rfl rfl)
theorem dX0_next_113 : decode cX0_next 113 = .ok (.iadd, 1) := dk_96 (dk_at dksX0_next_4 19 rfl rfl)
theorem dX0_next_114 : decode cX0_next 114 = .ok (.putfield 145, 3) := dk_181 0 145 (dk_at dksX0_next_4 20 rfl rfl)
theorem dX0_next_117 : decode cX0_next 117 = .ok (.ldc 173, 2) := dk_18 173 (dk_at dksX0_next_5 0 rfl rfl)
theorem dX0_next_119 : decode cX0_next 119 = .ok (.iload_n 1, 1) := dk_27 (dk_at dksX0_next_5 2 rfl rfl)
theorem dX0_next_120 : decode cX0_next 120 = .ok (.invokevirtual 175, 3) := dk_182 0 175 (dk_at dksX0_next_5 3 rfl rfl)
theorem dX0_next_123 : decode cX0_next 123 = .ok (.ifCond .ge 8, 3) := dk_156 0 8 (dk_at dksX0_next_5 6 rfl rfl)
theorem dX0_next_126 : decode cX0_next 126 = .ok (.aload_n 0, 1) := dk_42 (dk_at dksX0_next_5 9 rfl rfl)
theorem dX0_next_127 : decode cX0_next 127 = .ok (.getfield 180, 3) := dk_180 0 180 (dk_at dksX0_next_5 10 rfl rfl)
theorem dX0_next_130 : decode cX0_next 130 = .ok (.athrow, 1) := dk_191 (dk_at dksX0_next_5 13 rfl rfl)
theorem dX0_next_131 : decode cX0_next 131 = .ok (.return_, 1) := dk_177 (dk_at dksX0_next_5 14 rfl rfl)
abbrev cX0_byteAt : ByteArray := prog_1_method_16_code
def yX0_byteAt : MethodName := ⟨RX0, "byteAt", "(I)I"⟩
def dkwX0_byteAt_0 : List UInt8 := [27, 42, 180, 0, 130, 162, 0, 16, 42, 180, 0, 133, 27, 51, 17, 0, 255, 126, 167, 0, 4, 2, 172]
abbrev dktX0_byteAt_0 : List UInt8 := dkwX0_byteAt_0 ++ []
theorem dksX0_byteAt_0 : cX0_byteAt.data.toList.drop 0 = dktX0_byteAt_0 := by decide +kernel
theorem dX0_byteAt_0 : decode cX0_byteAt 0 = .ok (.iload_n 1, 1) := dk_27 (dk_at dksX0_byteAt_0 0 rfl rfl)
theorem dX0_byteAt_1 : decode cX0_byteAt 1 = .ok (.aload_n 0, 1) := dk_42 (dk_at dksX0_byteAt_0 1 rfl rfl)
theorem dX0_byteAt_2 : decode cX0_byteAt 2 = .ok (.getfield 130, 3) := dk_180 0 130 (dk_at dksX0_byteAt_0 2 rfl rfl)
theorem dX0_byteAt_5 : decode cX0_byteAt 5 = .ok (.if_icmp .ge 16, 3) := dk_162 0 16 (dk_at dksX0_byteAt_0 5 rfl rfl)
theorem dX0_byteAt_8 : decode cX0_byteAt 8 = .ok (.aload_n 0, 1) := dk_42 (dk_at dksX0_byteAt_0 8 rfl rfl)
theorem dX0_byteAt_9 : decode cX0_byteAt 9 = .ok (.getfield 133, 3) := dk_180 0 133 (dk_at dksX0_byteAt_0 9 rfl rfl)
theorem dX0_byteAt_12 : decode cX0_byteAt 12 = .ok (.iload_n 1, 1) := dk_27 (dk_at dksX0_byteAt_0 12 rfl rfl)
theorem dX0_byteAt_13 : decode cX0_byteAt 13 = .ok (.baload, 1) := dk_51 (dk_at dksX0_byteAt_0 13 rfl rfl)
theorem dX0_byteAt_14 : decode cX0_byteAt 14 = .ok (.sipush 255, 3) := dk_17 0 255 (dk_at dksX0_byteAt_0 14 rfl rfl)
theorem dX0_byteAt_17 : decode cX0_byteAt 17 = .ok (.iand, 1) := dk_126 (dk_at dksX0_byteAt_0 17 rfl rfl)
theorem dX0_byteAt_18 : decode cX0_byteAt 18 = .ok (.goto 4, 3) := dk_167 0 4 (dk_at dksX0_byteAt_0 18 rfl rfl)
theorem dX0_byteAt_21 : decode cX0_byteAt 21 = .ok (.iconst (-1), 1) := dk_2 (dk_at dksX0_byteAt_0 21 rfl rfl)
theorem dX0_byteAt_22 : decode cX0_byteAt 22 = .ok (.ireturn, 1) := dk_172 (dk_at dksX0_byteAt_0 22 rfl rfl)
abbrev cX0_isLetter : ByteArray := prog_1_method_17_code
def yX0_isLetter : MethodName := ⟨RX0, "isLetter", "(I)Z"⟩
def dkwX0_isLetter_0 : List UInt8 := [26, 133, 20, 0, 137, 20, 0, 139, 184, 0, 14, 172]
abbrev dktX0_isLetter_0 : List UInt8 := dkwX0_isLetter_0 ++ []
theorem dksX0_isLetter_0 : cX0_isLetter.data.toList.drop 0 = dktX0_isLetter_0 := by decide +kernel
theorem dX0_isLetter_0 : decode cX0_isLetter 0 = .ok (.iload_n 0, 1) := dk_26 (dk_at dksX0_isLetter_0 0 rfl rfl)
theorem dX0_isLetter_1 : decode cX0_isLetter 1 = .ok (.i2l, 1) := dk_133 (dk_at dksX0_isLetter_0 1 rfl rfl)
theorem dX0_isLetter_2 : decode cX0_isLetter 2 = .ok (.ldc2_w 137, 3) := dk_20 0 137 (dk_at dksX0_isLetter_0 2 rfl rfl)
theorem dX0_isLetter_5 : decode cX0_isLetter 5 = .ok (.ldc2_w 139, 3) := dk_20 0 139 (dk_at dksX0_isLetter_0 5 rfl rfl)
theorem dX0_isLetter_8 : decode cX0_isLetter 8 = .ok (.invokestatic 14, 3) := dk_184 0 14 (dk_at dksX0_isLetter_0 8 rfl rfl)
theorem dX0_isLetter_11 : decode cX0_isLetter 11 = .ok (.ireturn, 1) := dk_172 (dk_at dksX0_isLetter_0 11 rfl rfl)
abbrev cX0_word : ByteArray := prog_1_method_21_code
def yX0_word : MethodName := ⟨RX0, "word", "()V"⟩
def dkwX0_word_3 : List UInt8 := [42, 180, 0, 170, 2, 160, 0, 8, 42, 180, 0, 180, 191, 177]
abbrev dktX0_word_3 : List UInt8 := dkwX0_word_3 ++ []
def dkwX0_word_2 : List UInt8 := [181, 0, 154, 42, 27, 2, 160, 0, 14, 42, 42, 180, 0, 198, 182, 0, 194, 167, 0, 4, 27, 181, 0, 170]
abbrev dktX0_word_2 : List UInt8 := dkwX0_word_2 ++ dktX0_word_3
def dkwX0_word_1 : List UInt8 := [167, 255, 232, 42, 42, 180, 0, 190, 182, 0, 194, 60, 42, 27, 2, 160, 0, 7, 5, 167, 0, 4, 4]
abbrev dktX0_word_1 : List UInt8 := dkwX0_word_1 ++ dktX0_word_2
def dkwX0_word_0 : List UInt8 := [42, 42, 180, 0, 145, 182, 0, 148, 184, 0, 157, 153, 0, 16, 42, 89, 180, 0, 145, 4, 96, 181, 0, 145]
abbrev dktX0_word_0 : List UInt8 := dkwX0_word_0 ++ dktX0_word_1
theorem dksX0_word_0 : cX0_word.data.toList.drop 0 = dktX0_word_0 := by decide +kernel
theorem dksX0_word_1 : cX0_word.data.toList.drop 24 = dktX0_word_1 := dk_seg dksX0_word_0 24 rfl rfl
theorem dksX0_word_2 : cX0_word.data.toList.drop 47 = dktX0_word_2 := dk_seg dksX0_word_1 23 rfl rfl
theorem dksX0_word_3 : cX0_word.data.toList.drop 71 = dktX0_word_3 := dk_seg dksX0_word_2 24 rfl rfl
theorem dX0_word_0 : decode cX0_word 0 = .ok (.aload_n 0, 1) := dk_42 (dk_at dksX0_word_0 0 rfl rfl)
theorem dX0_word_1 : decode cX0_word 1 = .ok (.aload_n 0, 1) := dk_42 (dk_at dksX0_word_0 1 rfl rfl)
theorem dX0_word_2 : decode cX0_word 2 = .ok (.getfield 145, 3) := dk_180 0 145 (dk_at dksX0_word_0 2 rfl rfl)
theorem dX0_word_5 : decode cX0_word 5 = .ok (.invokevirtual 148, 3) := dk_182 0 148 (dk_at dksX0_word_0 5 rfl rfl)
theorem dX0_word_8 : decode cX0_word 8 = .ok (.invokestatic 157, 3) := dk_184 0 157 (dk_at dksX0_word_0 8 rfl rfl)
theorem dX0_word_11 : decode cX0_word 11 = .ok (.ifCond .eq 16, 3) := dk_153 0 16 (dk_at dksX0_word_0 11 rfl rfl)
theorem dX0_word_14 : decode cX0_word 14 = .ok (.aload_n 0, 1) := dk_42 (dk_at dksX0_word_0 14 rfl rfl)
theorem dX0_word_15 : decode cX0_word 15 = .ok (.dup, 1) := dk_89 (dk_at dksX0_word_0 15 rfl rfl)
theorem dX0_word_16 : decode cX0_word 16 = .ok (.getfield 145, 3) := dk_180 0 145 (dk_at dksX0_word_0 16 rfl rfl)
theorem dX0_word_19 : decode cX0_word 19 = .ok (.iconst 1, 1) := dk_4 (dk_at dksX0_word_0 19 rfl rfl)
theorem dX0_word_20 : decode cX0_word 20 = .ok (.iadd, 1) := dk_96 (dk_at dksX0_word_0 20 rfl rfl)
theorem dX0_word_21 : decode cX0_word 21 = .ok (.putfield 145, 3) := dk_181 0 145 (dk_at dksX0_word_0 21 rfl rfl)
theorem dX0_word_24 : decode cX0_word 24 = .ok (.goto (-24), 3) := dk_167 255 232 (dk_at dksX0_word_1 0 rfl rfl)
theorem dX0_word_27 : decode cX0_word 27 = .ok (.aload_n 0, 1) := dk_42 (dk_at dksX0_word_1 3 rfl rfl)
theorem dX0_word_28 : decode cX0_word 28 = .ok (.aload_n 0, 1) := dk_42 (dk_at dksX0_word_1 4 rfl rfl)
theorem dX0_word_29 : decode cX0_word 29 = .ok (.getfield 190, 3) := dk_180 0 190 (dk_at dksX0_word_1 5 rfl rfl)
theorem dX0_word_32 : decode cX0_word 32 = .ok (.invokevirtual 194, 3) := dk_182 0 194 (dk_at dksX0_word_1 8 rfl rfl)
theorem dX0_word_35 : decode cX0_word 35 = .ok (.istore_n 1, 1) := dk_60 (dk_at dksX0_word_1 11 rfl rfl)
theorem dX0_word_36 : decode cX0_word 36 = .ok (.aload_n 0, 1) := dk_42 (dk_at dksX0_word_1 12 rfl rfl)
theorem dX0_word_37 : decode cX0_word 37 = .ok (.iload_n 1, 1) := dk_27 (dk_at dksX0_word_1 13 rfl rfl)
theorem dX0_word_38 : decode cX0_word 38 = .ok (.iconst (-1), 1) := dk_2 (dk_at dksX0_word_1 14 rfl rfl)
theorem dX0_word_39 : decode cX0_word 39 = .ok (.if_icmp .ne 7, 3) := dk_160 0 7 (dk_at dksX0_word_1 15 rfl rfl)
theorem dX0_word_42 : decode cX0_word 42 = .ok (.iconst 2, 1) := dk_5 (dk_at dksX0_word_1 18 rfl rfl)
theorem dX0_word_43 : decode cX0_word 43 = .ok (.goto 4, 3) := dk_167 0 4 (dk_at dksX0_word_1 19 rfl rfl)
theorem dX0_word_46 : decode cX0_word 46 = .ok (.iconst 1, 1) := dk_4 (dk_at dksX0_word_1 22 rfl rfl)
theorem dX0_word_47 : decode cX0_word 47 = .ok (.putfield 154, 3) := dk_181 0 154 (dk_at dksX0_word_2 0 rfl rfl)
theorem dX0_word_50 : decode cX0_word 50 = .ok (.aload_n 0, 1) := dk_42 (dk_at dksX0_word_2 3 rfl rfl)
theorem dX0_word_51 : decode cX0_word 51 = .ok (.iload_n 1, 1) := dk_27 (dk_at dksX0_word_2 4 rfl rfl)
theorem dX0_word_52 : decode cX0_word 52 = .ok (.iconst (-1), 1) := dk_2 (dk_at dksX0_word_2 5 rfl rfl)
theorem dX0_word_53 : decode cX0_word 53 = .ok (.if_icmp .ne 14, 3) := dk_160 0 14 (dk_at dksX0_word_2 6 rfl rfl)
theorem dX0_word_56 : decode cX0_word 56 = .ok (.aload_n 0, 1) := dk_42 (dk_at dksX0_word_2 9 rfl rfl)
theorem dX0_word_57 : decode cX0_word 57 = .ok (.aload_n 0, 1) := dk_42 (dk_at dksX0_word_2 10 rfl rfl)
theorem dX0_word_58 : decode cX0_word 58 = .ok (.getfield 198, 3) := dk_180 0 198 (dk_at dksX0_word_2 11 rfl rfl)
theorem dX0_word_61 : decode cX0_word 61 = .ok (.invokevirtual 194, 3) := dk_182 0 194 (dk_at dksX0_word_2 14 rfl rfl)
theorem dX0_word_64 : decode cX0_word 64 = .ok (.goto 4, 3) := dk_167 0 4 (dk_at dksX0_word_2 17 rfl rfl)
theorem dX0_word_67 : decode cX0_word 67 = .ok (.iload_n 1, 1) := dk_27 (dk_at dksX0_word_2 20 rfl rfl)
theorem dX0_word_68 : decode cX0_word 68 = .ok (.putfield 170, 3) := dk_181 0 170 (dk_at dksX0_word_2 21 rfl rfl)
theorem dX0_word_71 : decode cX0_word 71 = .ok (.aload_n 0, 1) := dk_42 (dk_at dksX0_word_3 0 rfl rfl)
theorem dX0_word_72 : decode cX0_word 72 = .ok (.getfield 170, 3) := dk_180 0 170 (dk_at dksX0_word_3 1 rfl rfl)
theorem dX0_word_75 : decode cX0_word 75 = .ok (.iconst (-1), 1) := dk_2 (dk_at dksX0_word_3 4 rfl rfl)
theorem dX0_word_76 : decode cX0_word 76 = .ok (.if_icmp .ne 8, 3) := dk_160 0 8 (dk_at dksX0_word_3 5 rfl rfl)
theorem dX0_word_79 : decode cX0_word 79 = .ok (.aload_n 0, 1) := dk_42 (dk_at dksX0_word_3 8 rfl rfl)
theorem dX0_word_80 : decode cX0_word 80 = .ok (.getfield 180, 3) := dk_180 0 180 (dk_at dksX0_word_3 9 rfl rfl)
theorem dX0_word_83 : decode cX0_word 83 = .ok (.athrow, 1) := dk_191 (dk_at dksX0_word_3 12 rfl rfl)
theorem dX0_word_84 : decode cX0_word 84 = .ok (.return_, 1) := dk_177 (dk_at dksX0_word_3 13 rfl rfl)
abbrev cX0_placeIn : ByteArray := prog_1_method_20_code
def yX0_placeIn : MethodName := ⟨RX0, "placeIn", "([Ljava/lang/String;)I"⟩
def dkwX0_placeIn_4 : List UInt8 := [132, 2, 1, 167, 255, 162, 2, 172]
abbrev dktX0_placeIn_4 : List UInt8 := dkwX0_placeIn_4 ++ []
def dkwX0_placeIn_3 : List UInt8 := [182, 0, 148, 160, 0, 7, 4, 167, 0, 4, 3, 62, 132, 4, 1, 167, 255, 207, 29, 153, 0, 5, 28, 172]
abbrev dktX0_placeIn_3 : List UInt8 := dkwX0_placeIn_3 ++ dktX0_placeIn_4
def dkwX0_placeIn_2 : List UInt8 := [180, 0, 151, 100, 162, 0, 37, 43, 28, 50, 21, 4, 182, 0, 186, 42, 42, 180, 0, 151, 21, 4, 96]
abbrev dktX0_placeIn_2 : List UInt8 := dkwX0_placeIn_2 ++ dktX0_placeIn_3
def dkwX0_placeIn_1 : List UInt8 := [160, 0, 7, 4, 167, 0, 4, 3, 62, 3, 54, 4, 29, 153, 0, 51, 21, 4, 42, 180, 0, 145, 42]
abbrev dktX0_placeIn_1 : List UInt8 := dkwX0_placeIn_1 ++ dktX0_placeIn_2
def dkwX0_placeIn_0 : List UInt8 := [3, 61, 28, 43, 190, 162, 0, 94, 43, 28, 50, 182, 0, 184, 42, 180, 0, 145, 42, 180, 0, 151, 100]
abbrev dktX0_placeIn_0 : List UInt8 := dkwX0_placeIn_0 ++ dktX0_placeIn_1
theorem dksX0_placeIn_0 : cX0_placeIn.data.toList.drop 0 = dktX0_placeIn_0 := by decide +kernel
theorem dksX0_placeIn_1 : cX0_placeIn.data.toList.drop 23 = dktX0_placeIn_1 := dk_seg dksX0_placeIn_0 23 rfl rfl
theorem dksX0_placeIn_2 : cX0_placeIn.data.toList.drop 46 = dktX0_placeIn_2 := dk_seg dksX0_placeIn_1 23 rfl rfl
theorem dksX0_placeIn_3 : cX0_placeIn.data.toList.drop 69 = dktX0_placeIn_3 := dk_seg dksX0_placeIn_2 23 rfl rfl
theorem dksX0_placeIn_4 : cX0_placeIn.data.toList.drop 93 = dktX0_placeIn_4 := dk_seg dksX0_placeIn_3 24 rfl rfl
theorem dX0_placeIn_0 : decode cX0_placeIn 0 = .ok (.iconst 0, 1) := dk_3 (dk_at dksX0_placeIn_0 0 rfl rfl)
theorem dX0_placeIn_1 : decode cX0_placeIn 1 = .ok (.istore_n 2, 1) := dk_61 (dk_at dksX0_placeIn_0 1 rfl rfl)
theorem dX0_placeIn_2 : decode cX0_placeIn 2 = .ok (.iload_n 2, 1) := dk_28 (dk_at dksX0_placeIn_0 2 rfl rfl)
theorem dX0_placeIn_3 : decode cX0_placeIn 3 = .ok (.aload_n 1, 1) := dk_43 (dk_at dksX0_placeIn_0 3 rfl rfl)
theorem dX0_placeIn_4 : decode cX0_placeIn 4 = .ok (.arraylength, 1) := dk_190 (dk_at dksX0_placeIn_0 4 rfl rfl)
theorem dX0_placeIn_5 : decode cX0_placeIn 5 = .ok (.if_icmp .ge 94, 3) := dk_162 0 94 (dk_at dksX0_placeIn_0 5 rfl rfl)
theorem dX0_placeIn_8 : decode cX0_placeIn 8 = .ok (.aload_n 1, 1) := dk_43 (dk_at dksX0_placeIn_0 8 rfl rfl)
theorem dX0_placeIn_9 : decode cX0_placeIn 9 = .ok (.iload_n 2, 1) := dk_28 (dk_at dksX0_placeIn_0 9 rfl rfl)
theorem dX0_placeIn_10 : decode cX0_placeIn 10 = .ok (.aaload, 1) := dk_50 (dk_at dksX0_placeIn_0 10 rfl rfl)
theorem dX0_placeIn_11 : decode cX0_placeIn 11 = .ok (.invokevirtual 184, 3) := dk_182 0 184 (dk_at dksX0_placeIn_0 11 rfl rfl)
theorem dX0_placeIn_14 : decode cX0_placeIn 14 = .ok (.aload_n 0, 1) := dk_42 (dk_at dksX0_placeIn_0 14 rfl rfl)
theorem dX0_placeIn_15 : decode cX0_placeIn 15 = .ok (.getfield 145, 3) := dk_180 0 145 (dk_at dksX0_placeIn_0 15 rfl rfl)
theorem dX0_placeIn_18 : decode cX0_placeIn 18 = .ok (.aload_n 0, 1) := dk_42 (dk_at dksX0_placeIn_0 18 rfl rfl)
theorem dX0_placeIn_19 : decode cX0_placeIn 19 = .ok (.getfield 151, 3) := dk_180 0 151 (dk_at dksX0_placeIn_0 19 rfl rfl)
theorem dX0_placeIn_22 : decode cX0_placeIn 22 = .ok (.isub, 1) := dk_100 (dk_at dksX0_placeIn_0 22 rfl rfl)
theorem dX0_placeIn_23 : decode cX0_placeIn 23 = .ok (.if_icmp .ne 7, 3) := dk_160 0 7 (dk_at dksX0_placeIn_1 0 rfl rfl)
theorem dX0_placeIn_26 : decode cX0_placeIn 26 = .ok (.iconst 1, 1) := dk_4 (dk_at dksX0_placeIn_1 3 rfl rfl)
theorem dX0_placeIn_27 : decode cX0_placeIn 27 = .ok (.goto 4, 3) := dk_167 0 4 (dk_at dksX0_placeIn_1 4 rfl rfl)
theorem dX0_placeIn_30 : decode cX0_placeIn 30 = .ok (.iconst 0, 1) := dk_3 (dk_at dksX0_placeIn_1 7 rfl rfl)
theorem dX0_placeIn_31 : decode cX0_placeIn 31 = .ok (.istore_n 3, 1) := dk_62 (dk_at dksX0_placeIn_1 8 rfl rfl)
theorem dX0_placeIn_32 : decode cX0_placeIn 32 = .ok (.iconst 0, 1) := dk_3 (dk_at dksX0_placeIn_1 9 rfl rfl)
theorem dX0_placeIn_33 : decode cX0_placeIn 33 = .ok (.istore 4, 2) := dk_54 4 (dk_at dksX0_placeIn_1 10 rfl rfl)
theorem dX0_placeIn_35 : decode cX0_placeIn 35 = .ok (.iload_n 3, 1) := dk_29 (dk_at dksX0_placeIn_1 12 rfl rfl)
theorem dX0_placeIn_36 : decode cX0_placeIn 36 = .ok (.ifCond .eq 51, 3) := dk_153 0 51 (dk_at dksX0_placeIn_1 13 rfl rfl)
theorem dX0_placeIn_39 : decode cX0_placeIn 39 = .ok (.iload 4, 2) := dk_21 4 (dk_at dksX0_placeIn_1 16 rfl rfl)
theorem dX0_placeIn_41 : decode cX0_placeIn 41 = .ok (.aload_n 0, 1) := dk_42 (dk_at dksX0_placeIn_1 18 rfl rfl)
theorem dX0_placeIn_42 : decode cX0_placeIn 42 = .ok (.getfield 145, 3) := dk_180 0 145 (dk_at dksX0_placeIn_1 19 rfl rfl)
theorem dX0_placeIn_45 : decode cX0_placeIn 45 = .ok (.aload_n 0, 1) := dk_42 (dk_at dksX0_placeIn_1 22 rfl rfl)
theorem dX0_placeIn_46 : decode cX0_placeIn 46 = .ok (.getfield 151, 3) := dk_180 0 151 (dk_at dksX0_placeIn_2 0 rfl rfl)
theorem dX0_placeIn_49 : decode cX0_placeIn 49 = .ok (.isub, 1) := dk_100 (dk_at dksX0_placeIn_2 3 rfl rfl)
theorem dX0_placeIn_50 : decode cX0_placeIn 50 = .ok (.if_icmp .ge 37, 3) := dk_162 0 37 (dk_at dksX0_placeIn_2 4 rfl rfl)
theorem dX0_placeIn_53 : decode cX0_placeIn 53 = .ok (.aload_n 1, 1) := dk_43 (dk_at dksX0_placeIn_2 7 rfl rfl)
theorem dX0_placeIn_54 : decode cX0_placeIn 54 = .ok (.iload_n 2, 1) := dk_28 (dk_at dksX0_placeIn_2 8 rfl rfl)
theorem dX0_placeIn_55 : decode cX0_placeIn 55 = .ok (.aaload, 1) := dk_50 (dk_at dksX0_placeIn_2 9 rfl rfl)
theorem dX0_placeIn_56 : decode cX0_placeIn 56 = .ok (.iload 4, 2) := dk_21 4 (dk_at dksX0_placeIn_2 10 rfl rfl)
theorem dX0_placeIn_58 : decode cX0_placeIn 58 = .ok (.invokevirtual 186, 3) := dk_182 0 186 (dk_at dksX0_placeIn_2 12 rfl rfl)
theorem dX0_placeIn_61 : decode cX0_placeIn 61 = .ok (.aload_n 0, 1) := dk_42 (dk_at dksX0_placeIn_2 15 rfl rfl)
theorem dX0_placeIn_62 : decode cX0_placeIn 62 = .ok (.aload_n 0, 1) := dk_42 (dk_at dksX0_placeIn_2 16 rfl rfl)
theorem dX0_placeIn_63 : decode cX0_placeIn 63 = .ok (.getfield 151, 3) := dk_180 0 151 (dk_at dksX0_placeIn_2 17 rfl rfl)
theorem dX0_placeIn_66 : decode cX0_placeIn 66 = .ok (.iload 4, 2) := dk_21 4 (dk_at dksX0_placeIn_2 20 rfl rfl)
theorem dX0_placeIn_68 : decode cX0_placeIn 68 = .ok (.iadd, 1) := dk_96 (dk_at dksX0_placeIn_2 22 rfl rfl)
theorem dX0_placeIn_69 : decode cX0_placeIn 69 = .ok (.invokevirtual 148, 3) := dk_182 0 148 (dk_at dksX0_placeIn_3 0 rfl rfl)
theorem dX0_placeIn_72 : decode cX0_placeIn 72 = .ok (.if_icmp .ne 7, 3) := dk_160 0 7 (dk_at dksX0_placeIn_3 3 rfl rfl)
theorem dX0_placeIn_75 : decode cX0_placeIn 75 = .ok (.iconst 1, 1) := dk_4 (dk_at dksX0_placeIn_3 6 rfl rfl)
theorem dX0_placeIn_76 : decode cX0_placeIn 76 = .ok (.goto 4, 3) := dk_167 0 4 (dk_at dksX0_placeIn_3 7 rfl rfl)
theorem dX0_placeIn_79 : decode cX0_placeIn 79 = .ok (.iconst 0, 1) := dk_3 (dk_at dksX0_placeIn_3 10 rfl rfl)
theorem dX0_placeIn_80 : decode cX0_placeIn 80 = .ok (.istore_n 3, 1) := dk_62 (dk_at dksX0_placeIn_3 11 rfl rfl)
theorem dX0_placeIn_81 : decode cX0_placeIn 81 = .ok (.iinc 4 1, 3) := dk_132 4 1 (dk_at dksX0_placeIn_3 12 rfl rfl)
theorem dX0_placeIn_84 : decode cX0_placeIn 84 = .ok (.goto (-49), 3) := dk_167 255 207 (dk_at dksX0_placeIn_3 15 rfl rfl)
theorem dX0_placeIn_87 : decode cX0_placeIn 87 = .ok (.iload_n 3, 1) := dk_29 (dk_at dksX0_placeIn_3 18 rfl rfl)
theorem dX0_placeIn_88 : decode cX0_placeIn 88 = .ok (.ifCond .eq 5, 3) := dk_153 0 5 (dk_at dksX0_placeIn_3 19 rfl rfl)
theorem dX0_placeIn_91 : decode cX0_placeIn 91 = .ok (.iload_n 2, 1) := dk_28 (dk_at dksX0_placeIn_3 22 rfl rfl)
theorem dX0_placeIn_92 : decode cX0_placeIn 92 = .ok (.ireturn, 1) := dk_172 (dk_at dksX0_placeIn_3 23 rfl rfl)
theorem dX0_placeIn_93 : decode cX0_placeIn 93 = .ok (.iinc 2 1, 3) := dk_132 2 1 (dk_at dksX0_placeIn_4 0 rfl rfl)
theorem dX0_placeIn_96 : decode cX0_placeIn 96 = .ok (.goto (-94), 3) := dk_167 255 162 (dk_at dksX0_placeIn_4 3 rfl rfl)
theorem dX0_placeIn_99 : decode cX0_placeIn 99 = .ok (.iconst (-1), 1) := dk_2 (dk_at dksX0_placeIn_4 6 rfl rfl)
theorem dX0_placeIn_100 : decode cX0_placeIn 100 = .ok (.ireturn, 1) := dk_172 (dk_at dksX0_placeIn_4 7 rfl rfl)
abbrev cX0_isDigit : ByteArray := prog_1_method_18_code
def yX0_isDigit : MethodName := ⟨RX0, "isDigit", "(I)Z"⟩
def dkwX0_isDigit_0 : List UInt8 := [26, 133, 20, 0, 141, 20, 0, 143, 184, 0, 14, 172]
abbrev dktX0_isDigit_0 : List UInt8 := dkwX0_isDigit_0 ++ []
theorem dksX0_isDigit_0 : cX0_isDigit.data.toList.drop 0 = dktX0_isDigit_0 := by decide +kernel
theorem dX0_isDigit_0 : decode cX0_isDigit 0 = .ok (.iload_n 0, 1) := dk_26 (dk_at dksX0_isDigit_0 0 rfl rfl)
theorem dX0_isDigit_1 : decode cX0_isDigit 1 = .ok (.i2l, 1) := dk_133 (dk_at dksX0_isDigit_0 1 rfl rfl)
theorem dX0_isDigit_2 : decode cX0_isDigit 2 = .ok (.ldc2_w 141, 3) := dk_20 0 141 (dk_at dksX0_isDigit_0 2 rfl rfl)
theorem dX0_isDigit_5 : decode cX0_isDigit 5 = .ok (.ldc2_w 143, 3) := dk_20 0 143 (dk_at dksX0_isDigit_0 5 rfl rfl)
theorem dX0_isDigit_8 : decode cX0_isDigit 8 = .ok (.invokestatic 14, 3) := dk_184 0 14 (dk_at dksX0_isDigit_0 8 rfl rfl)
theorem dX0_isDigit_11 : decode cX0_isDigit 11 = .ok (.ireturn, 1) := dk_172 (dk_at dksX0_isDigit_0 11 rfl rfl)
abbrev cX0_digits : ByteArray := prog_1_method_22_code
def yX0_digits : MethodName := ⟨RX0, "digits", "()V"⟩
def dkwX0_digits_4 : List UInt8 := [180, 0, 180, 191, 177]
abbrev dktX0_digits_4 : List UInt8 := dkwX0_digits_4 ++ []
def dkwX0_digits_3 : List UInt8 := [167, 255, 189, 42, 6, 181, 0, 154, 42, 180, 0, 145, 42, 180, 0, 151, 100, 7, 164, 0, 8, 42]
abbrev dktX0_digits_3 : List UInt8 := dkwX0_digits_3 ++ dktX0_digits_4
def dkwX0_digits_2 : List UInt8 := [96, 16, 48, 100, 167, 0, 7, 42, 180, 0, 170, 181, 0, 170, 42, 89, 180, 0, 145, 4, 96, 181, 0, 145]
abbrev dktX0_digits_2 : List UInt8 := dkwX0_digits_2 ++ dktX0_digits_3
def dkwX0_digits_1 : List UInt8 := [42, 180, 0, 151, 100, 7, 162, 0, 25, 16, 10, 42, 180, 0, 170, 104, 42, 42, 180, 0, 145, 182, 0, 148]
abbrev dktX0_digits_1 : List UInt8 := dkwX0_digits_1 ++ dktX0_digits_2
def dkwX0_digits_0 : List UInt8 := [42, 3, 181, 0, 170, 42, 42, 180, 0, 145, 182, 0, 148, 184, 0, 164, 153, 0, 59, 42, 42, 180, 0, 145]
abbrev dktX0_digits_0 : List UInt8 := dkwX0_digits_0 ++ dktX0_digits_1
theorem dksX0_digits_0 : cX0_digits.data.toList.drop 0 = dktX0_digits_0 := by decide +kernel
theorem dksX0_digits_1 : cX0_digits.data.toList.drop 24 = dktX0_digits_1 := dk_seg dksX0_digits_0 24 rfl rfl
theorem dksX0_digits_2 : cX0_digits.data.toList.drop 48 = dktX0_digits_2 := dk_seg dksX0_digits_1 24 rfl rfl
theorem dksX0_digits_3 : cX0_digits.data.toList.drop 72 = dktX0_digits_3 := dk_seg dksX0_digits_2 24 rfl rfl
theorem dksX0_digits_4 : cX0_digits.data.toList.drop 94 = dktX0_digits_4 := dk_seg dksX0_digits_3 22 rfl rfl
theorem dX0_digits_0 : decode cX0_digits 0 = .ok (.aload_n 0, 1) := dk_42 (dk_at dksX0_digits_0 0 rfl rfl)
theorem dX0_digits_1 : decode cX0_digits 1 = .ok (.iconst 0, 1) := dk_3 (dk_at dksX0_digits_0 1 rfl rfl)
theorem dX0_digits_2 : decode cX0_digits 2 = .ok (.putfield 170, 3) := dk_181 0 170 (dk_at dksX0_digits_0 2 rfl rfl)
theorem dX0_digits_5 : decode cX0_digits 5 = .ok (.aload_n 0, 1) := dk_42 (dk_at dksX0_digits_0 5 rfl rfl)
theorem dX0_digits_6 : decode cX0_digits 6 = .ok (.aload_n 0, 1) := dk_42 (dk_at dksX0_digits_0 6 rfl rfl)
theorem dX0_digits_7 : decode cX0_digits 7 = .ok (.getfield 145, 3) := dk_180 0 145 (dk_at dksX0_digits_0 7 rfl rfl)
theorem dX0_digits_10 : decode cX0_digits 10 = .ok (.invokevirtual 148, 3) := dk_182 0 148 (dk_at dksX0_digits_0 10 rfl rfl)
theorem dX0_digits_13 : decode cX0_digits 13 = .ok (.invokestatic 164, 3) := dk_184 0 164 (dk_at dksX0_digits_0 13 rfl rfl)
theorem dX0_digits_16 : decode cX0_digits 16 = .ok (.ifCond .eq 59, 3) := dk_153 0 59 (dk_at dksX0_digits_0 16 rfl rfl)
theorem dX0_digits_19 : decode cX0_digits 19 = .ok (.aload_n 0, 1) := dk_42 (dk_at dksX0_digits_0 19 rfl rfl)
theorem dX0_digits_20 : decode cX0_digits 20 = .ok (.aload_n 0, 1) := dk_42 (dk_at dksX0_digits_0 20 rfl rfl)
theorem dX0_digits_21 : decode cX0_digits 21 = .ok (.getfield 145, 3) := dk_180 0 145 (dk_at dksX0_digits_0 21 rfl rfl)
theorem dX0_digits_24 : decode cX0_digits 24 = .ok (.aload_n 0, 1) := dk_42 (dk_at dksX0_digits_1 0 rfl rfl)
theorem dX0_digits_25 : decode cX0_digits 25 = .ok (.getfield 151, 3) := dk_180 0 151 (dk_at dksX0_digits_1 1 rfl rfl)
theorem dX0_digits_28 : decode cX0_digits 28 = .ok (.isub, 1) := dk_100 (dk_at dksX0_digits_1 4 rfl rfl)
theorem dX0_digits_29 : decode cX0_digits 29 = .ok (.iconst 4, 1) := dk_7 (dk_at dksX0_digits_1 5 rfl rfl)
theorem dX0_digits_30 : decode cX0_digits 30 = .ok (.if_icmp .ge 25, 3) := dk_162 0 25 (dk_at dksX0_digits_1 6 rfl rfl)
theorem dX0_digits_33 : decode cX0_digits 33 = .ok (.bipush 10, 2) := dk_16 10 (dk_at dksX0_digits_1 9 rfl rfl)
theorem dX0_digits_35 : decode cX0_digits 35 = .ok (.aload_n 0, 1) := dk_42 (dk_at dksX0_digits_1 11 rfl rfl)
theorem dX0_digits_36 : decode cX0_digits 36 = .ok (.getfield 170, 3) := dk_180 0 170 (dk_at dksX0_digits_1 12 rfl rfl)
theorem dX0_digits_39 : decode cX0_digits 39 = .ok (.imul, 1) := dk_104 (dk_at dksX0_digits_1 15 rfl rfl)
theorem dX0_digits_40 : decode cX0_digits 40 = .ok (.aload_n 0, 1) := dk_42 (dk_at dksX0_digits_1 16 rfl rfl)
theorem dX0_digits_41 : decode cX0_digits 41 = .ok (.aload_n 0, 1) := dk_42 (dk_at dksX0_digits_1 17 rfl rfl)
theorem dX0_digits_42 : decode cX0_digits 42 = .ok (.getfield 145, 3) := dk_180 0 145 (dk_at dksX0_digits_1 18 rfl rfl)
theorem dX0_digits_45 : decode cX0_digits 45 = .ok (.invokevirtual 148, 3) := dk_182 0 148 (dk_at dksX0_digits_1 21 rfl rfl)
theorem dX0_digits_48 : decode cX0_digits 48 = .ok (.iadd, 1) := dk_96 (dk_at dksX0_digits_2 0 rfl rfl)
theorem dX0_digits_49 : decode cX0_digits 49 = .ok (.bipush 48, 2) := dk_16 48 (dk_at dksX0_digits_2 1 rfl rfl)
theorem dX0_digits_51 : decode cX0_digits 51 = .ok (.isub, 1) := dk_100 (dk_at dksX0_digits_2 3 rfl rfl)
theorem dX0_digits_52 : decode cX0_digits 52 = .ok (.goto 7, 3) := dk_167 0 7 (dk_at dksX0_digits_2 4 rfl rfl)
theorem dX0_digits_55 : decode cX0_digits 55 = .ok (.aload_n 0, 1) := dk_42 (dk_at dksX0_digits_2 7 rfl rfl)
theorem dX0_digits_56 : decode cX0_digits 56 = .ok (.getfield 170, 3) := dk_180 0 170 (dk_at dksX0_digits_2 8 rfl rfl)
theorem dX0_digits_59 : decode cX0_digits 59 = .ok (.putfield 170, 3) := dk_181 0 170 (dk_at dksX0_digits_2 11 rfl rfl)
theorem dX0_digits_62 : decode cX0_digits 62 = .ok (.aload_n 0, 1) := dk_42 (dk_at dksX0_digits_2 14 rfl rfl)
theorem dX0_digits_63 : decode cX0_digits 63 = .ok (.dup, 1) := dk_89 (dk_at dksX0_digits_2 15 rfl rfl)
theorem dX0_digits_64 : decode cX0_digits 64 = .ok (.getfield 145, 3) := dk_180 0 145 (dk_at dksX0_digits_2 16 rfl rfl)
theorem dX0_digits_67 : decode cX0_digits 67 = .ok (.iconst 1, 1) := dk_4 (dk_at dksX0_digits_2 19 rfl rfl)
theorem dX0_digits_68 : decode cX0_digits 68 = .ok (.iadd, 1) := dk_96 (dk_at dksX0_digits_2 20 rfl rfl)
theorem dX0_digits_69 : decode cX0_digits 69 = .ok (.putfield 145, 3) := dk_181 0 145 (dk_at dksX0_digits_2 21 rfl rfl)
theorem dX0_digits_72 : decode cX0_digits 72 = .ok (.goto (-67), 3) := dk_167 255 189 (dk_at dksX0_digits_3 0 rfl rfl)
theorem dX0_digits_75 : decode cX0_digits 75 = .ok (.aload_n 0, 1) := dk_42 (dk_at dksX0_digits_3 3 rfl rfl)
theorem dX0_digits_76 : decode cX0_digits 76 = .ok (.iconst 3, 1) := dk_6 (dk_at dksX0_digits_3 4 rfl rfl)
theorem dX0_digits_77 : decode cX0_digits 77 = .ok (.putfield 154, 3) := dk_181 0 154 (dk_at dksX0_digits_3 5 rfl rfl)
theorem dX0_digits_80 : decode cX0_digits 80 = .ok (.aload_n 0, 1) := dk_42 (dk_at dksX0_digits_3 8 rfl rfl)
theorem dX0_digits_81 : decode cX0_digits 81 = .ok (.getfield 145, 3) := dk_180 0 145 (dk_at dksX0_digits_3 9 rfl rfl)
theorem dX0_digits_84 : decode cX0_digits 84 = .ok (.aload_n 0, 1) := dk_42 (dk_at dksX0_digits_3 12 rfl rfl)
theorem dX0_digits_85 : decode cX0_digits 85 = .ok (.getfield 151, 3) := dk_180 0 151 (dk_at dksX0_digits_3 13 rfl rfl)
theorem dX0_digits_88 : decode cX0_digits 88 = .ok (.isub, 1) := dk_100 (dk_at dksX0_digits_3 16 rfl rfl)
theorem dX0_digits_89 : decode cX0_digits 89 = .ok (.iconst 4, 1) := dk_7 (dk_at dksX0_digits_3 17 rfl rfl)
theorem dX0_digits_90 : decode cX0_digits 90 = .ok (.if_icmp .le 8, 3) := dk_164 0 8 (dk_at dksX0_digits_3 18 rfl rfl)
theorem dX0_digits_93 : decode cX0_digits 93 = .ok (.aload_n 0, 1) := dk_42 (dk_at dksX0_digits_3 21 rfl rfl)
theorem dX0_digits_94 : decode cX0_digits 94 = .ok (.getfield 180, 3) := dk_180 0 180 (dk_at dksX0_digits_4 0 rfl rfl)
theorem dX0_digits_97 : decode cX0_digits 97 = .ok (.athrow, 1) := dk_191 (dk_at dksX0_digits_4 3 rfl rfl)
theorem dX0_digits_98 : decode cX0_digits 98 = .ok (.return_, 1) := dk_177 (dk_at dksX0_digits_4 4 rfl rfl)
abbrev cX0_isKey : ByteArray := prog_1_method_24_code
def yX0_isKey : MethodName := ⟨RX0, "isKey", "(I)Z"⟩
def dkwX0_isKey_0 : List UInt8 := [42, 180, 0, 154, 4, 160, 0, 15, 42, 180, 0, 170, 27, 160, 0, 7, 4, 167, 0, 4, 3, 172]
abbrev dktX0_isKey_0 : List UInt8 := dkwX0_isKey_0 ++ []
theorem dksX0_isKey_0 : cX0_isKey.data.toList.drop 0 = dktX0_isKey_0 := by decide +kernel
theorem dX0_isKey_0 : decode cX0_isKey 0 = .ok (.aload_n 0, 1) := dk_42 (dk_at dksX0_isKey_0 0 rfl rfl)
theorem dX0_isKey_1 : decode cX0_isKey 1 = .ok (.getfield 154, 3) := dk_180 0 154 (dk_at dksX0_isKey_0 1 rfl rfl)
theorem dX0_isKey_4 : decode cX0_isKey 4 = .ok (.iconst 1, 1) := dk_4 (dk_at dksX0_isKey_0 4 rfl rfl)
theorem dX0_isKey_5 : decode cX0_isKey 5 = .ok (.if_icmp .ne 15, 3) := dk_160 0 15 (dk_at dksX0_isKey_0 5 rfl rfl)
theorem dX0_isKey_8 : decode cX0_isKey 8 = .ok (.aload_n 0, 1) := dk_42 (dk_at dksX0_isKey_0 8 rfl rfl)
theorem dX0_isKey_9 : decode cX0_isKey 9 = .ok (.getfield 170, 3) := dk_180 0 170 (dk_at dksX0_isKey_0 9 rfl rfl)
theorem dX0_isKey_12 : decode cX0_isKey 12 = .ok (.iload_n 1, 1) := dk_27 (dk_at dksX0_isKey_0 12 rfl rfl)
theorem dX0_isKey_13 : decode cX0_isKey 13 = .ok (.if_icmp .ne 7, 3) := dk_160 0 7 (dk_at dksX0_isKey_0 13 rfl rfl)
theorem dX0_isKey_16 : decode cX0_isKey 16 = .ok (.iconst 1, 1) := dk_4 (dk_at dksX0_isKey_0 16 rfl rfl)
theorem dX0_isKey_17 : decode cX0_isKey 17 = .ok (.goto 4, 3) := dk_167 0 4 (dk_at dksX0_isKey_0 17 rfl rfl)
theorem dX0_isKey_20 : decode cX0_isKey 20 = .ok (.iconst 0, 1) := dk_3 (dk_at dksX0_isKey_0 20 rfl rfl)
theorem dX0_isKey_21 : decode cX0_isKey 21 = .ok (.ireturn, 1) := dk_172 (dk_at dksX0_isKey_0 21 rfl rfl)
abbrev cX0_need : ByteArray := prog_1_method_25_code
def yX0_need : MethodName := ⟨RX0, "need", "(Z)V"⟩
def dkwX0_need_0 : List UInt8 := [27, 154, 0, 8, 42, 180, 0, 180, 191, 42, 182, 0, 201, 177]
abbrev dktX0_need_0 : List UInt8 := dkwX0_need_0 ++ []
theorem dksX0_need_0 : cX0_need.data.toList.drop 0 = dktX0_need_0 := by decide +kernel
theorem dX0_need_0 : decode cX0_need 0 = .ok (.iload_n 1, 1) := dk_27 (dk_at dksX0_need_0 0 rfl rfl)
theorem dX0_need_1 : decode cX0_need 1 = .ok (.ifCond .ne 8, 3) := dk_154 0 8 (dk_at dksX0_need_0 1 rfl rfl)
theorem dX0_need_4 : decode cX0_need 4 = .ok (.aload_n 0, 1) := dk_42 (dk_at dksX0_need_0 4 rfl rfl)
theorem dX0_need_5 : decode cX0_need 5 = .ok (.getfield 180, 3) := dk_180 0 180 (dk_at dksX0_need_0 5 rfl rfl)
theorem dX0_need_8 : decode cX0_need 8 = .ok (.athrow, 1) := dk_191 (dk_at dksX0_need_0 8 rfl rfl)
theorem dX0_need_9 : decode cX0_need 9 = .ok (.aload_n 0, 1) := dk_42 (dk_at dksX0_need_0 9 rfl rfl)
theorem dX0_need_10 : decode cX0_need 10 = .ok (.invokevirtual 201, 3) := dk_182 0 201 (dk_at dksX0_need_0 10 rfl rfl)
theorem dX0_need_13 : decode cX0_need 13 = .ok (.return_, 1) := dk_177 (dk_at dksX0_need_0 13 rfl rfl)
abbrev cX0_either : ByteArray := prog_1_method_27_code
def yX0_either : MethodName := ⟨RX0, "either", "()LPaneKeepsWeather$Node;"⟩
def dkwX0_either_1 : List UInt8 := [42, 182, 0, 211, 183, 0, 220, 76, 167, 255, 229, 43, 176]
abbrev dktX0_either_1 : List UInt8 := dkwX0_either_1 ++ []
def dkwX0_either_0 : List UInt8 := [42, 182, 0, 211, 76, 42, 6, 182, 0, 215, 153, 0, 25, 42, 182, 0, 201, 187, 0, 218, 89, 16, 124, 43]
abbrev dktX0_either_0 : List UInt8 := dkwX0_either_0 ++ dktX0_either_1
theorem dksX0_either_0 : cX0_either.data.toList.drop 0 = dktX0_either_0 := by decide +kernel
theorem dksX0_either_1 : cX0_either.data.toList.drop 24 = dktX0_either_1 := dk_seg dksX0_either_0 24 rfl rfl
theorem dX0_either_0 : decode cX0_either 0 = .ok (.aload_n 0, 1) := dk_42 (dk_at dksX0_either_0 0 rfl rfl)
theorem dX0_either_1 : decode cX0_either 1 = .ok (.invokevirtual 211, 3) := dk_182 0 211 (dk_at dksX0_either_0 1 rfl rfl)
theorem dX0_either_4 : decode cX0_either 4 = .ok (.astore_n 1, 1) := dk_76 (dk_at dksX0_either_0 4 rfl rfl)
theorem dX0_either_5 : decode cX0_either 5 = .ok (.aload_n 0, 1) := dk_42 (dk_at dksX0_either_0 5 rfl rfl)
theorem dX0_either_6 : decode cX0_either 6 = .ok (.iconst 3, 1) := dk_6 (dk_at dksX0_either_0 6 rfl rfl)
theorem dX0_either_7 : decode cX0_either 7 = .ok (.invokevirtual 215, 3) := dk_182 0 215 (dk_at dksX0_either_0 7 rfl rfl)
theorem dX0_either_10 : decode cX0_either 10 = .ok (.ifCond .eq 25, 3) := dk_153 0 25 (dk_at dksX0_either_0 10 rfl rfl)
theorem dX0_either_13 : decode cX0_either 13 = .ok (.aload_n 0, 1) := dk_42 (dk_at dksX0_either_0 13 rfl rfl)
theorem dX0_either_14 : decode cX0_either 14 = .ok (.invokevirtual 201, 3) := dk_182 0 201 (dk_at dksX0_either_0 14 rfl rfl)
theorem dX0_either_17 : decode cX0_either 17 = .ok (.new 218, 3) := dk_187 0 218 (dk_at dksX0_either_0 17 rfl rfl)
theorem dX0_either_20 : decode cX0_either 20 = .ok (.dup, 1) := dk_89 (dk_at dksX0_either_0 20 rfl rfl)
theorem dX0_either_21 : decode cX0_either 21 = .ok (.bipush 124, 2) := dk_16 124 (dk_at dksX0_either_0 21 rfl rfl)
theorem dX0_either_23 : decode cX0_either 23 = .ok (.aload_n 1, 1) := dk_43 (dk_at dksX0_either_0 23 rfl rfl)
theorem dX0_either_24 : decode cX0_either 24 = .ok (.aload_n 0, 1) := dk_42 (dk_at dksX0_either_1 0 rfl rfl)
theorem dX0_either_25 : decode cX0_either 25 = .ok (.invokevirtual 211, 3) := dk_182 0 211 (dk_at dksX0_either_1 1 rfl rfl)
theorem dX0_either_28 : decode cX0_either 28 = .ok (.invokespecial 220, 3) := dk_183 0 220 (dk_at dksX0_either_1 4 rfl rfl)
theorem dX0_either_31 : decode cX0_either 31 = .ok (.astore_n 1, 1) := dk_76 (dk_at dksX0_either_1 7 rfl rfl)
theorem dX0_either_32 : decode cX0_either 32 = .ok (.goto (-27), 3) := dk_167 255 229 (dk_at dksX0_either_1 8 rfl rfl)
theorem dX0_either_35 : decode cX0_either 35 = .ok (.aload_n 1, 1) := dk_43 (dk_at dksX0_either_1 11 rfl rfl)
theorem dX0_either_36 : decode cX0_either 36 = .ok (.areturn, 1) := dk_176 (dk_at dksX0_either_1 12 rfl rfl)
abbrev cX0_both : ByteArray := prog_1_method_28_code
def yX0_both : MethodName := ⟨RX0, "both", "()LPaneKeepsWeather$Node;"⟩
def dkwX0_both_1 : List UInt8 := [42, 182, 0, 223, 183, 0, 220, 76, 167, 255, 229, 43, 176]
abbrev dktX0_both_1 : List UInt8 := dkwX0_both_1 ++ []
def dkwX0_both_0 : List UInt8 := [42, 182, 0, 223, 76, 42, 7, 182, 0, 215, 153, 0, 25, 42, 182, 0, 201, 187, 0, 218, 89, 16, 38, 43]
abbrev dktX0_both_0 : List UInt8 := dkwX0_both_0 ++ dktX0_both_1
theorem dksX0_both_0 : cX0_both.data.toList.drop 0 = dktX0_both_0 := by decide +kernel
theorem dksX0_both_1 : cX0_both.data.toList.drop 24 = dktX0_both_1 := dk_seg dksX0_both_0 24 rfl rfl
theorem dX0_both_0 : decode cX0_both 0 = .ok (.aload_n 0, 1) := dk_42 (dk_at dksX0_both_0 0 rfl rfl)
theorem dX0_both_1 : decode cX0_both 1 = .ok (.invokevirtual 223, 3) := dk_182 0 223 (dk_at dksX0_both_0 1 rfl rfl)
theorem dX0_both_4 : decode cX0_both 4 = .ok (.astore_n 1, 1) := dk_76 (dk_at dksX0_both_0 4 rfl rfl)
theorem dX0_both_5 : decode cX0_both 5 = .ok (.aload_n 0, 1) := dk_42 (dk_at dksX0_both_0 5 rfl rfl)
theorem dX0_both_6 : decode cX0_both 6 = .ok (.iconst 4, 1) := dk_7 (dk_at dksX0_both_0 6 rfl rfl)
theorem dX0_both_7 : decode cX0_both 7 = .ok (.invokevirtual 215, 3) := dk_182 0 215 (dk_at dksX0_both_0 7 rfl rfl)
theorem dX0_both_10 : decode cX0_both 10 = .ok (.ifCond .eq 25, 3) := dk_153 0 25 (dk_at dksX0_both_0 10 rfl rfl)
theorem dX0_both_13 : decode cX0_both 13 = .ok (.aload_n 0, 1) := dk_42 (dk_at dksX0_both_0 13 rfl rfl)
theorem dX0_both_14 : decode cX0_both 14 = .ok (.invokevirtual 201, 3) := dk_182 0 201 (dk_at dksX0_both_0 14 rfl rfl)
theorem dX0_both_17 : decode cX0_both 17 = .ok (.new 218, 3) := dk_187 0 218 (dk_at dksX0_both_0 17 rfl rfl)
theorem dX0_both_20 : decode cX0_both 20 = .ok (.dup, 1) := dk_89 (dk_at dksX0_both_0 20 rfl rfl)
theorem dX0_both_21 : decode cX0_both 21 = .ok (.bipush 38, 2) := dk_16 38 (dk_at dksX0_both_0 21 rfl rfl)
theorem dX0_both_23 : decode cX0_both 23 = .ok (.aload_n 1, 1) := dk_43 (dk_at dksX0_both_0 23 rfl rfl)
theorem dX0_both_24 : decode cX0_both 24 = .ok (.aload_n 0, 1) := dk_42 (dk_at dksX0_both_1 0 rfl rfl)
theorem dX0_both_25 : decode cX0_both 25 = .ok (.invokevirtual 223, 3) := dk_182 0 223 (dk_at dksX0_both_1 1 rfl rfl)
theorem dX0_both_28 : decode cX0_both 28 = .ok (.invokespecial 220, 3) := dk_183 0 220 (dk_at dksX0_both_1 4 rfl rfl)
theorem dX0_both_31 : decode cX0_both 31 = .ok (.astore_n 1, 1) := dk_76 (dk_at dksX0_both_1 7 rfl rfl)
theorem dX0_both_32 : decode cX0_both 32 = .ok (.goto (-27), 3) := dk_167 255 229 (dk_at dksX0_both_1 8 rfl rfl)
theorem dX0_both_35 : decode cX0_both 35 = .ok (.aload_n 1, 1) := dk_43 (dk_at dksX0_both_1 11 rfl rfl)
theorem dX0_both_36 : decode cX0_both 36 = .ok (.areturn, 1) := dk_176 (dk_at dksX0_both_1 12 rfl rfl)
abbrev cX0_not : ByteArray := prog_1_method_29_code
def yX0_not : MethodName := ⟨RX0, "not", "()LPaneKeepsWeather$Node;"⟩
def dkwX0_not_3 : List UInt8 := [89, 28, 43, 42, 182, 0, 234, 183, 0, 220, 76, 43, 176]
abbrev dktX0_not_3 : List UInt8 := dkwX0_not_3 ++ []
def dkwX0_not_2 : List UInt8 := [154, 0, 12, 42, 16, 61, 182, 0, 237, 153, 0, 26, 42, 180, 0, 170, 61, 42, 182, 0, 201, 187, 0, 218]
abbrev dktX0_not_2 : List UInt8 := dkwX0_not_2 ++ dktX0_not_3
def dkwX0_not_1 : List UInt8 := [181, 0, 204, 187, 0, 229, 89, 43, 3, 183, 0, 231, 176, 42, 182, 0, 234, 76, 42, 16, 60, 182, 0, 237]
abbrev dktX0_not_1 : List UInt8 := dkwX0_not_1 ++ dktX0_not_2
def dkwX0_not_0 : List UInt8 := [42, 8, 182, 0, 215, 153, 0, 32, 42, 182, 0, 226, 42, 182, 0, 223, 76, 42, 89, 180, 0, 204, 4, 100]
abbrev dktX0_not_0 : List UInt8 := dkwX0_not_0 ++ dktX0_not_1
theorem dksX0_not_0 : cX0_not.data.toList.drop 0 = dktX0_not_0 := by decide +kernel
theorem dksX0_not_1 : cX0_not.data.toList.drop 24 = dktX0_not_1 := dk_seg dksX0_not_0 24 rfl rfl
theorem dksX0_not_2 : cX0_not.data.toList.drop 48 = dktX0_not_2 := dk_seg dksX0_not_1 24 rfl rfl
theorem dksX0_not_3 : cX0_not.data.toList.drop 72 = dktX0_not_3 := dk_seg dksX0_not_2 24 rfl rfl
theorem dX0_not_0 : decode cX0_not 0 = .ok (.aload_n 0, 1) := dk_42 (dk_at dksX0_not_0 0 rfl rfl)
theorem dX0_not_1 : decode cX0_not 1 = .ok (.iconst 5, 1) := dk_8 (dk_at dksX0_not_0 1 rfl rfl)
theorem dX0_not_2 : decode cX0_not 2 = .ok (.invokevirtual 215, 3) := dk_182 0 215 (dk_at dksX0_not_0 2 rfl rfl)
theorem dX0_not_5 : decode cX0_not 5 = .ok (.ifCond .eq 32, 3) := dk_153 0 32 (dk_at dksX0_not_0 5 rfl rfl)
theorem dX0_not_8 : decode cX0_not 8 = .ok (.aload_n 0, 1) := dk_42 (dk_at dksX0_not_0 8 rfl rfl)
theorem dX0_not_9 : decode cX0_not 9 = .ok (.invokevirtual 226, 3) := dk_182 0 226 (dk_at dksX0_not_0 9 rfl rfl)
theorem dX0_not_12 : decode cX0_not 12 = .ok (.aload_n 0, 1) := dk_42 (dk_at dksX0_not_0 12 rfl rfl)
theorem dX0_not_13 : decode cX0_not 13 = .ok (.invokevirtual 223, 3) := dk_182 0 223 (dk_at dksX0_not_0 13 rfl rfl)
theorem dX0_not_16 : decode cX0_not 16 = .ok (.astore_n 1, 1) := dk_76 (dk_at dksX0_not_0 16 rfl rfl)
theorem dX0_not_17 : decode cX0_not 17 = .ok (.aload_n 0, 1) := dk_42 (dk_at dksX0_not_0 17 rfl rfl)
theorem dX0_not_18 : decode cX0_not 18 = .ok (.dup, 1) := dk_89 (dk_at dksX0_not_0 18 rfl rfl)
theorem dX0_not_19 : decode cX0_not 19 = .ok (.getfield 204, 3) := dk_180 0 204 (dk_at dksX0_not_0 19 rfl rfl)
theorem dX0_not_22 : decode cX0_not 22 = .ok (.iconst 1, 1) := dk_4 (dk_at dksX0_not_0 22 rfl rfl)
theorem dX0_not_23 : decode cX0_not 23 = .ok (.isub, 1) := dk_100 (dk_at dksX0_not_0 23 rfl rfl)
theorem dX0_not_24 : decode cX0_not 24 = .ok (.putfield 204, 3) := dk_181 0 204 (dk_at dksX0_not_1 0 rfl rfl)
theorem dX0_not_27 : decode cX0_not 27 = .ok (.new 229, 3) := dk_187 0 229 (dk_at dksX0_not_1 3 rfl rfl)
theorem dX0_not_30 : decode cX0_not 30 = .ok (.dup, 1) := dk_89 (dk_at dksX0_not_1 6 rfl rfl)
theorem dX0_not_31 : decode cX0_not 31 = .ok (.aload_n 1, 1) := dk_43 (dk_at dksX0_not_1 7 rfl rfl)
theorem dX0_not_32 : decode cX0_not 32 = .ok (.iconst 0, 1) := dk_3 (dk_at dksX0_not_1 8 rfl rfl)
theorem dX0_not_33 : decode cX0_not 33 = .ok (.invokespecial 231, 3) := dk_183 0 231 (dk_at dksX0_not_1 9 rfl rfl)
theorem dX0_not_36 : decode cX0_not 36 = .ok (.areturn, 1) := dk_176 (dk_at dksX0_not_1 12 rfl rfl)
theorem dX0_not_37 : decode cX0_not 37 = .ok (.aload_n 0, 1) := dk_42 (dk_at dksX0_not_1 13 rfl rfl)
theorem dX0_not_38 : decode cX0_not 38 = .ok (.invokevirtual 234, 3) := dk_182 0 234 (dk_at dksX0_not_1 14 rfl rfl)
theorem dX0_not_41 : decode cX0_not 41 = .ok (.astore_n 1, 1) := dk_76 (dk_at dksX0_not_1 17 rfl rfl)
theorem dX0_not_42 : decode cX0_not 42 = .ok (.aload_n 0, 1) := dk_42 (dk_at dksX0_not_1 18 rfl rfl)
theorem dX0_not_43 : decode cX0_not 43 = .ok (.bipush 60, 2) := dk_16 60 (dk_at dksX0_not_1 19 rfl rfl)
theorem dX0_not_45 : decode cX0_not 45 = .ok (.invokevirtual 237, 3) := dk_182 0 237 (dk_at dksX0_not_1 21 rfl rfl)
theorem dX0_not_48 : decode cX0_not 48 = .ok (.ifCond .ne 12, 3) := dk_154 0 12 (dk_at dksX0_not_2 0 rfl rfl)
theorem dX0_not_51 : decode cX0_not 51 = .ok (.aload_n 0, 1) := dk_42 (dk_at dksX0_not_2 3 rfl rfl)
theorem dX0_not_52 : decode cX0_not 52 = .ok (.bipush 61, 2) := dk_16 61 (dk_at dksX0_not_2 4 rfl rfl)
theorem dX0_not_54 : decode cX0_not 54 = .ok (.invokevirtual 237, 3) := dk_182 0 237 (dk_at dksX0_not_2 6 rfl rfl)
theorem dX0_not_57 : decode cX0_not 57 = .ok (.ifCond .eq 26, 3) := dk_153 0 26 (dk_at dksX0_not_2 9 rfl rfl)
theorem dX0_not_60 : decode cX0_not 60 = .ok (.aload_n 0, 1) := dk_42 (dk_at dksX0_not_2 12 rfl rfl)
theorem dX0_not_61 : decode cX0_not 61 = .ok (.getfield 170, 3) := dk_180 0 170 (dk_at dksX0_not_2 13 rfl rfl)
theorem dX0_not_64 : decode cX0_not 64 = .ok (.istore_n 2, 1) := dk_61 (dk_at dksX0_not_2 16 rfl rfl)
theorem dX0_not_65 : decode cX0_not 65 = .ok (.aload_n 0, 1) := dk_42 (dk_at dksX0_not_2 17 rfl rfl)
theorem dX0_not_66 : decode cX0_not 66 = .ok (.invokevirtual 201, 3) := dk_182 0 201 (dk_at dksX0_not_2 18 rfl rfl)
theorem dX0_not_69 : decode cX0_not 69 = .ok (.new 218, 3) := dk_187 0 218 (dk_at dksX0_not_2 21 rfl rfl)
theorem dX0_not_72 : decode cX0_not 72 = .ok (.dup, 1) := dk_89 (dk_at dksX0_not_3 0 rfl rfl)
theorem dX0_not_73 : decode cX0_not 73 = .ok (.iload_n 2, 1) := dk_28 (dk_at dksX0_not_3 1 rfl rfl)
theorem dX0_not_74 : decode cX0_not 74 = .ok (.aload_n 1, 1) := dk_43 (dk_at dksX0_not_3 2 rfl rfl)
theorem dX0_not_75 : decode cX0_not 75 = .ok (.aload_n 0, 1) := dk_42 (dk_at dksX0_not_3 3 rfl rfl)
theorem dX0_not_76 : decode cX0_not 76 = .ok (.invokevirtual 234, 3) := dk_182 0 234 (dk_at dksX0_not_3 4 rfl rfl)
theorem dX0_not_79 : decode cX0_not 79 = .ok (.invokespecial 220, 3) := dk_183 0 220 (dk_at dksX0_not_3 7 rfl rfl)
theorem dX0_not_82 : decode cX0_not 82 = .ok (.astore_n 1, 1) := dk_76 (dk_at dksX0_not_3 10 rfl rfl)
theorem dX0_not_83 : decode cX0_not 83 = .ok (.aload_n 1, 1) := dk_43 (dk_at dksX0_not_3 11 rfl rfl)
theorem dX0_not_84 : decode cX0_not 84 = .ok (.areturn, 1) := dk_176 (dk_at dksX0_not_3 12 rfl rfl)
abbrev cX0_openOne : ByteArray := prog_1_method_26_code
def yX0_openOne : MethodName := ⟨RX0, "openOne", "()V"⟩
def dkwX0_openOne_1 : List UInt8 := [181, 0, 204, 177]
abbrev dktX0_openOne_1 : List UInt8 := dkwX0_openOne_1 ++ []
def dkwX0_openOne_0 : List UInt8 := [42, 42, 180, 0, 204, 8, 162, 0, 7, 4, 167, 0, 4, 3, 182, 0, 207, 42, 89, 180, 0, 204, 4, 96]
abbrev dktX0_openOne_0 : List UInt8 := dkwX0_openOne_0 ++ dktX0_openOne_1
theorem dksX0_openOne_0 : cX0_openOne.data.toList.drop 0 = dktX0_openOne_0 := by decide +kernel
theorem dksX0_openOne_1 : cX0_openOne.data.toList.drop 24 = dktX0_openOne_1 := dk_seg dksX0_openOne_0 24 rfl rfl
theorem dX0_openOne_0 : decode cX0_openOne 0 = .ok (.aload_n 0, 1) := dk_42 (dk_at dksX0_openOne_0 0 rfl rfl)
theorem dX0_openOne_1 : decode cX0_openOne 1 = .ok (.aload_n 0, 1) := dk_42 (dk_at dksX0_openOne_0 1 rfl rfl)
theorem dX0_openOne_2 : decode cX0_openOne 2 = .ok (.getfield 204, 3) := dk_180 0 204 (dk_at dksX0_openOne_0 2 rfl rfl)
theorem dX0_openOne_5 : decode cX0_openOne 5 = .ok (.iconst 5, 1) := dk_8 (dk_at dksX0_openOne_0 5 rfl rfl)
theorem dX0_openOne_6 : decode cX0_openOne 6 = .ok (.if_icmp .ge 7, 3) := dk_162 0 7 (dk_at dksX0_openOne_0 6 rfl rfl)
theorem dX0_openOne_9 : decode cX0_openOne 9 = .ok (.iconst 1, 1) := dk_4 (dk_at dksX0_openOne_0 9 rfl rfl)
theorem dX0_openOne_10 : decode cX0_openOne 10 = .ok (.goto 4, 3) := dk_167 0 4 (dk_at dksX0_openOne_0 10 rfl rfl)
theorem dX0_openOne_13 : decode cX0_openOne 13 = .ok (.iconst 0, 1) := dk_3 (dk_at dksX0_openOne_0 13 rfl rfl)
theorem dX0_openOne_14 : decode cX0_openOne 14 = .ok (.invokevirtual 207, 3) := dk_182 0 207 (dk_at dksX0_openOne_0 14 rfl rfl)
theorem dX0_openOne_17 : decode cX0_openOne 17 = .ok (.aload_n 0, 1) := dk_42 (dk_at dksX0_openOne_0 17 rfl rfl)
theorem dX0_openOne_18 : decode cX0_openOne 18 = .ok (.dup, 1) := dk_89 (dk_at dksX0_openOne_0 18 rfl rfl)
theorem dX0_openOne_19 : decode cX0_openOne 19 = .ok (.getfield 204, 3) := dk_180 0 204 (dk_at dksX0_openOne_0 19 rfl rfl)
theorem dX0_openOne_22 : decode cX0_openOne 22 = .ok (.iconst 1, 1) := dk_4 (dk_at dksX0_openOne_0 22 rfl rfl)
theorem dX0_openOne_23 : decode cX0_openOne 23 = .ok (.iadd, 1) := dk_96 (dk_at dksX0_openOne_0 23 rfl rfl)
theorem dX0_openOne_24 : decode cX0_openOne 24 = .ok (.putfield 204, 3) := dk_181 0 204 (dk_at dksX0_openOne_1 0 rfl rfl)
theorem dX0_openOne_27 : decode cX0_openOne 27 = .ok (.return_, 1) := dk_177 (dk_at dksX0_openOne_1 3 rfl rfl)
abbrev cX0_plus : ByteArray := prog_1_method_30_code
def yX0_plus : MethodName := ⟨RX0, "plus", "()LPaneKeepsWeather$Node;"⟩
def dkwX0_plus_2 : List UInt8 := [167, 255, 215, 43, 176]
abbrev dktX0_plus_2 : List UInt8 := dkwX0_plus_2 ++ []
def dkwX0_plus_1 : List UInt8 := [180, 0, 170, 61, 42, 182, 0, 201, 187, 0, 218, 89, 28, 43, 42, 182, 0, 240, 183, 0, 220, 76]
abbrev dktX0_plus_1 : List UInt8 := dkwX0_plus_1 ++ dktX0_plus_2
def dkwX0_plus_0 : List UInt8 := [42, 182, 0, 240, 76, 42, 16, 43, 182, 0, 237, 154, 0, 12, 42, 16, 45, 182, 0, 237, 153, 0, 29, 42]
abbrev dktX0_plus_0 : List UInt8 := dkwX0_plus_0 ++ dktX0_plus_1
theorem dksX0_plus_0 : cX0_plus.data.toList.drop 0 = dktX0_plus_0 := by decide +kernel
theorem dksX0_plus_1 : cX0_plus.data.toList.drop 24 = dktX0_plus_1 := dk_seg dksX0_plus_0 24 rfl rfl
theorem dksX0_plus_2 : cX0_plus.data.toList.drop 46 = dktX0_plus_2 := dk_seg dksX0_plus_1 22 rfl rfl
theorem dX0_plus_0 : decode cX0_plus 0 = .ok (.aload_n 0, 1) := dk_42 (dk_at dksX0_plus_0 0 rfl rfl)
theorem dX0_plus_1 : decode cX0_plus 1 = .ok (.invokevirtual 240, 3) := dk_182 0 240 (dk_at dksX0_plus_0 1 rfl rfl)
theorem dX0_plus_4 : decode cX0_plus 4 = .ok (.astore_n 1, 1) := dk_76 (dk_at dksX0_plus_0 4 rfl rfl)
theorem dX0_plus_5 : decode cX0_plus 5 = .ok (.aload_n 0, 1) := dk_42 (dk_at dksX0_plus_0 5 rfl rfl)
theorem dX0_plus_6 : decode cX0_plus 6 = .ok (.bipush 43, 2) := dk_16 43 (dk_at dksX0_plus_0 6 rfl rfl)
theorem dX0_plus_8 : decode cX0_plus 8 = .ok (.invokevirtual 237, 3) := dk_182 0 237 (dk_at dksX0_plus_0 8 rfl rfl)
theorem dX0_plus_11 : decode cX0_plus 11 = .ok (.ifCond .ne 12, 3) := dk_154 0 12 (dk_at dksX0_plus_0 11 rfl rfl)
theorem dX0_plus_14 : decode cX0_plus 14 = .ok (.aload_n 0, 1) := dk_42 (dk_at dksX0_plus_0 14 rfl rfl)
theorem dX0_plus_15 : decode cX0_plus 15 = .ok (.bipush 45, 2) := dk_16 45 (dk_at dksX0_plus_0 15 rfl rfl)
theorem dX0_plus_17 : decode cX0_plus 17 = .ok (.invokevirtual 237, 3) := dk_182 0 237 (dk_at dksX0_plus_0 17 rfl rfl)
theorem dX0_plus_20 : decode cX0_plus 20 = .ok (.ifCond .eq 29, 3) := dk_153 0 29 (dk_at dksX0_plus_0 20 rfl rfl)
theorem dX0_plus_23 : decode cX0_plus 23 = .ok (.aload_n 0, 1) := dk_42 (dk_at dksX0_plus_0 23 rfl rfl)
theorem dX0_plus_24 : decode cX0_plus 24 = .ok (.getfield 170, 3) := dk_180 0 170 (dk_at dksX0_plus_1 0 rfl rfl)
theorem dX0_plus_27 : decode cX0_plus 27 = .ok (.istore_n 2, 1) := dk_61 (dk_at dksX0_plus_1 3 rfl rfl)
theorem dX0_plus_28 : decode cX0_plus 28 = .ok (.aload_n 0, 1) := dk_42 (dk_at dksX0_plus_1 4 rfl rfl)
theorem dX0_plus_29 : decode cX0_plus 29 = .ok (.invokevirtual 201, 3) := dk_182 0 201 (dk_at dksX0_plus_1 5 rfl rfl)
theorem dX0_plus_32 : decode cX0_plus 32 = .ok (.new 218, 3) := dk_187 0 218 (dk_at dksX0_plus_1 8 rfl rfl)
theorem dX0_plus_35 : decode cX0_plus 35 = .ok (.dup, 1) := dk_89 (dk_at dksX0_plus_1 11 rfl rfl)
theorem dX0_plus_36 : decode cX0_plus 36 = .ok (.iload_n 2, 1) := dk_28 (dk_at dksX0_plus_1 12 rfl rfl)
theorem dX0_plus_37 : decode cX0_plus 37 = .ok (.aload_n 1, 1) := dk_43 (dk_at dksX0_plus_1 13 rfl rfl)
theorem dX0_plus_38 : decode cX0_plus 38 = .ok (.aload_n 0, 1) := dk_42 (dk_at dksX0_plus_1 14 rfl rfl)
theorem dX0_plus_39 : decode cX0_plus 39 = .ok (.invokevirtual 240, 3) := dk_182 0 240 (dk_at dksX0_plus_1 15 rfl rfl)
theorem dX0_plus_42 : decode cX0_plus 42 = .ok (.invokespecial 220, 3) := dk_183 0 220 (dk_at dksX0_plus_1 18 rfl rfl)
theorem dX0_plus_45 : decode cX0_plus 45 = .ok (.astore_n 1, 1) := dk_76 (dk_at dksX0_plus_1 21 rfl rfl)
theorem dX0_plus_46 : decode cX0_plus 46 = .ok (.goto (-41), 3) := dk_167 255 215 (dk_at dksX0_plus_2 0 rfl rfl)
theorem dX0_plus_49 : decode cX0_plus 49 = .ok (.aload_n 1, 1) := dk_43 (dk_at dksX0_plus_2 3 rfl rfl)
theorem dX0_plus_50 : decode cX0_plus 50 = .ok (.areturn, 1) := dk_176 (dk_at dksX0_plus_2 4 rfl rfl)
abbrev cX0_times : ByteArray := prog_1_method_31_code
def yX0_times : MethodName := ⟨RX0, "times", "()LPaneKeepsWeather$Node;"⟩
def dkwX0_times_1 : List UInt8 := [43, 42, 182, 0, 243, 183, 0, 220, 76, 167, 255, 228, 43, 176]
abbrev dktX0_times_1 : List UInt8 := dkwX0_times_1 ++ []
def dkwX0_times_0 : List UInt8 := [42, 182, 0, 243, 76, 42, 16, 42, 182, 0, 237, 153, 0, 25, 42, 182, 0, 201, 187, 0, 218, 89, 16, 42]
abbrev dktX0_times_0 : List UInt8 := dkwX0_times_0 ++ dktX0_times_1
theorem dksX0_times_0 : cX0_times.data.toList.drop 0 = dktX0_times_0 := by decide +kernel
theorem dksX0_times_1 : cX0_times.data.toList.drop 24 = dktX0_times_1 := dk_seg dksX0_times_0 24 rfl rfl
theorem dX0_times_0 : decode cX0_times 0 = .ok (.aload_n 0, 1) := dk_42 (dk_at dksX0_times_0 0 rfl rfl)
theorem dX0_times_1 : decode cX0_times 1 = .ok (.invokevirtual 243, 3) := dk_182 0 243 (dk_at dksX0_times_0 1 rfl rfl)
theorem dX0_times_4 : decode cX0_times 4 = .ok (.astore_n 1, 1) := dk_76 (dk_at dksX0_times_0 4 rfl rfl)
theorem dX0_times_5 : decode cX0_times 5 = .ok (.aload_n 0, 1) := dk_42 (dk_at dksX0_times_0 5 rfl rfl)
theorem dX0_times_6 : decode cX0_times 6 = .ok (.bipush 42, 2) := dk_16 42 (dk_at dksX0_times_0 6 rfl rfl)
theorem dX0_times_8 : decode cX0_times 8 = .ok (.invokevirtual 237, 3) := dk_182 0 237 (dk_at dksX0_times_0 8 rfl rfl)
theorem dX0_times_11 : decode cX0_times 11 = .ok (.ifCond .eq 25, 3) := dk_153 0 25 (dk_at dksX0_times_0 11 rfl rfl)
theorem dX0_times_14 : decode cX0_times 14 = .ok (.aload_n 0, 1) := dk_42 (dk_at dksX0_times_0 14 rfl rfl)
theorem dX0_times_15 : decode cX0_times 15 = .ok (.invokevirtual 201, 3) := dk_182 0 201 (dk_at dksX0_times_0 15 rfl rfl)
theorem dX0_times_18 : decode cX0_times 18 = .ok (.new 218, 3) := dk_187 0 218 (dk_at dksX0_times_0 18 rfl rfl)
theorem dX0_times_21 : decode cX0_times 21 = .ok (.dup, 1) := dk_89 (dk_at dksX0_times_0 21 rfl rfl)
theorem dX0_times_22 : decode cX0_times 22 = .ok (.bipush 42, 2) := dk_16 42 (dk_at dksX0_times_0 22 rfl rfl)
theorem dX0_times_24 : decode cX0_times 24 = .ok (.aload_n 1, 1) := dk_43 (dk_at dksX0_times_1 0 rfl rfl)
theorem dX0_times_25 : decode cX0_times 25 = .ok (.aload_n 0, 1) := dk_42 (dk_at dksX0_times_1 1 rfl rfl)
theorem dX0_times_26 : decode cX0_times 26 = .ok (.invokevirtual 243, 3) := dk_182 0 243 (dk_at dksX0_times_1 2 rfl rfl)
theorem dX0_times_29 : decode cX0_times 29 = .ok (.invokespecial 220, 3) := dk_183 0 220 (dk_at dksX0_times_1 5 rfl rfl)
theorem dX0_times_32 : decode cX0_times 32 = .ok (.astore_n 1, 1) := dk_76 (dk_at dksX0_times_1 8 rfl rfl)
theorem dX0_times_33 : decode cX0_times 33 = .ok (.goto (-28), 3) := dk_167 255 228 (dk_at dksX0_times_1 9 rfl rfl)
theorem dX0_times_36 : decode cX0_times 36 = .ok (.aload_n 1, 1) := dk_43 (dk_at dksX0_times_1 12 rfl rfl)
theorem dX0_times_37 : decode cX0_times 37 = .ok (.areturn, 1) := dk_176 (dk_at dksX0_times_1 13 rfl rfl)
abbrev cX0_one : ByteArray := prog_1_method_32_code
def yX0_one : MethodName := ⟨RX0, "one", "()LPaneKeepsWeather$Node;"⟩
def dkwX0_one_5 : List UInt8 := [154, 0, 8, 42, 180, 0, 180, 191, 42, 89, 180, 0, 204, 4, 100, 181, 0, 204, 42, 182, 0, 201, 44, 176]
abbrev dktX0_one_5 : List UInt8 := dkwX0_one_5 ++ []
def dkwX0_one_4 : List UInt8 := [154, 0, 8, 42, 180, 0, 180, 191, 42, 182, 0, 226, 42, 182, 1, 0, 77, 42, 16, 41, 182, 0, 237]
abbrev dktX0_one_4 : List UInt8 := dkwX0_one_4 ++ dktX0_one_5
def dkwX0_one_3 : List UInt8 := [180, 0, 204, 4, 100, 181, 0, 204, 187, 0, 229, 89, 44, 4, 183, 0, 231, 176, 42, 16, 40, 182, 0, 237]
abbrev dktX0_one_3 : List UInt8 := dkwX0_one_3 ++ dktX0_one_4
def dkwX0_one_2 : List UInt8 := [183, 0, 253, 176, 42, 16, 45, 182, 0, 237, 153, 0, 32, 42, 182, 0, 226, 42, 182, 0, 243, 77, 42, 89]
abbrev dktX0_one_2 : List UInt8 := dkwX0_one_2 ++ dktX0_one_3
def dkwX0_one_1 : List UInt8 := [183, 0, 248, 176, 42, 180, 0, 154, 5, 160, 0, 17, 42, 182, 0, 201, 187, 0, 251, 89, 42, 27]
abbrev dktX0_one_1 : List UInt8 := dkwX0_one_1 ++ dktX0_one_2
def dkwX0_one_0 : List UInt8 := [42, 180, 0, 170, 60, 42, 180, 0, 154, 6, 160, 0, 16, 42, 182, 0, 201, 187, 0, 246, 89, 27]
abbrev dktX0_one_0 : List UInt8 := dkwX0_one_0 ++ dktX0_one_1
theorem dksX0_one_0 : cX0_one.data.toList.drop 0 = dktX0_one_0 := by decide +kernel
theorem dksX0_one_1 : cX0_one.data.toList.drop 22 = dktX0_one_1 := dk_seg dksX0_one_0 22 rfl rfl
theorem dksX0_one_2 : cX0_one.data.toList.drop 44 = dktX0_one_2 := dk_seg dksX0_one_1 22 rfl rfl
theorem dksX0_one_3 : cX0_one.data.toList.drop 68 = dktX0_one_3 := dk_seg dksX0_one_2 24 rfl rfl
theorem dksX0_one_4 : cX0_one.data.toList.drop 92 = dktX0_one_4 := dk_seg dksX0_one_3 24 rfl rfl
theorem dksX0_one_5 : cX0_one.data.toList.drop 115 = dktX0_one_5 := dk_seg dksX0_one_4 23 rfl rfl
theorem dX0_one_0 : decode cX0_one 0 = .ok (.aload_n 0, 1) := dk_42 (dk_at dksX0_one_0 0 rfl rfl)
theorem dX0_one_1 : decode cX0_one 1 = .ok (.getfield 170, 3) := dk_180 0 170 (dk_at dksX0_one_0 1 rfl rfl)
theorem dX0_one_4 : decode cX0_one 4 = .ok (.istore_n 1, 1) := dk_60 (dk_at dksX0_one_0 4 rfl rfl)
theorem dX0_one_5 : decode cX0_one 5 = .ok (.aload_n 0, 1) := dk_42 (dk_at dksX0_one_0 5 rfl rfl)
theorem dX0_one_6 : decode cX0_one 6 = .ok (.getfield 154, 3) := dk_180 0 154 (dk_at dksX0_one_0 6 rfl rfl)
theorem dX0_one_9 : decode cX0_one 9 = .ok (.iconst 3, 1) := dk_6 (dk_at dksX0_one_0 9 rfl rfl)
theorem dX0_one_10 : decode cX0_one 10 = .ok (.if_icmp .ne 16, 3) := dk_160 0 16 (dk_at dksX0_one_0 10 rfl rfl)
theorem dX0_one_13 : decode cX0_one 13 = .ok (.aload_n 0, 1) := dk_42 (dk_at dksX0_one_0 13 rfl rfl)
theorem dX0_one_14 : decode cX0_one 14 = .ok (.invokevirtual 201, 3) := dk_182 0 201 (dk_at dksX0_one_0 14 rfl rfl)
theorem dX0_one_17 : decode cX0_one 17 = .ok (.new 246, 3) := dk_187 0 246 (dk_at dksX0_one_0 17 rfl rfl)
theorem dX0_one_20 : decode cX0_one 20 = .ok (.dup, 1) := dk_89 (dk_at dksX0_one_0 20 rfl rfl)
theorem dX0_one_21 : decode cX0_one 21 = .ok (.iload_n 1, 1) := dk_27 (dk_at dksX0_one_0 21 rfl rfl)
theorem dX0_one_22 : decode cX0_one 22 = .ok (.invokespecial 248, 3) := dk_183 0 248 (dk_at dksX0_one_1 0 rfl rfl)
theorem dX0_one_25 : decode cX0_one 25 = .ok (.areturn, 1) := dk_176 (dk_at dksX0_one_1 3 rfl rfl)
theorem dX0_one_26 : decode cX0_one 26 = .ok (.aload_n 0, 1) := dk_42 (dk_at dksX0_one_1 4 rfl rfl)
theorem dX0_one_27 : decode cX0_one 27 = .ok (.getfield 154, 3) := dk_180 0 154 (dk_at dksX0_one_1 5 rfl rfl)
theorem dX0_one_30 : decode cX0_one 30 = .ok (.iconst 2, 1) := dk_5 (dk_at dksX0_one_1 8 rfl rfl)
theorem dX0_one_31 : decode cX0_one 31 = .ok (.if_icmp .ne 17, 3) := dk_160 0 17 (dk_at dksX0_one_1 9 rfl rfl)
theorem dX0_one_34 : decode cX0_one 34 = .ok (.aload_n 0, 1) := dk_42 (dk_at dksX0_one_1 12 rfl rfl)
theorem dX0_one_35 : decode cX0_one 35 = .ok (.invokevirtual 201, 3) := dk_182 0 201 (dk_at dksX0_one_1 13 rfl rfl)
theorem dX0_one_38 : decode cX0_one 38 = .ok (.new 251, 3) := dk_187 0 251 (dk_at dksX0_one_1 16 rfl rfl)
theorem dX0_one_41 : decode cX0_one 41 = .ok (.dup, 1) := dk_89 (dk_at dksX0_one_1 19 rfl rfl)
theorem dX0_one_42 : decode cX0_one 42 = .ok (.aload_n 0, 1) := dk_42 (dk_at dksX0_one_1 20 rfl rfl)
theorem dX0_one_43 : decode cX0_one 43 = .ok (.iload_n 1, 1) := dk_27 (dk_at dksX0_one_1 21 rfl rfl)
theorem dX0_one_44 : decode cX0_one 44 = .ok (.invokespecial 253, 3) := dk_183 0 253 (dk_at dksX0_one_2 0 rfl rfl)
theorem dX0_one_47 : decode cX0_one 47 = .ok (.areturn, 1) := dk_176 (dk_at dksX0_one_2 3 rfl rfl)
theorem dX0_one_48 : decode cX0_one 48 = .ok (.aload_n 0, 1) := dk_42 (dk_at dksX0_one_2 4 rfl rfl)
theorem dX0_one_49 : decode cX0_one 49 = .ok (.bipush 45, 2) := dk_16 45 (dk_at dksX0_one_2 5 rfl rfl)
theorem dX0_one_51 : decode cX0_one 51 = .ok (.invokevirtual 237, 3) := dk_182 0 237 (dk_at dksX0_one_2 7 rfl rfl)
theorem dX0_one_54 : decode cX0_one 54 = .ok (.ifCond .eq 32, 3) := dk_153 0 32 (dk_at dksX0_one_2 10 rfl rfl)
theorem dX0_one_57 : decode cX0_one 57 = .ok (.aload_n 0, 1) := dk_42 (dk_at dksX0_one_2 13 rfl rfl)
theorem dX0_one_58 : decode cX0_one 58 = .ok (.invokevirtual 226, 3) := dk_182 0 226 (dk_at dksX0_one_2 14 rfl rfl)
theorem dX0_one_61 : decode cX0_one 61 = .ok (.aload_n 0, 1) := dk_42 (dk_at dksX0_one_2 17 rfl rfl)
theorem dX0_one_62 : decode cX0_one 62 = .ok (.invokevirtual 243, 3) := dk_182 0 243 (dk_at dksX0_one_2 18 rfl rfl)
theorem dX0_one_65 : decode cX0_one 65 = .ok (.astore_n 2, 1) := dk_77 (dk_at dksX0_one_2 21 rfl rfl)
theorem dX0_one_66 : decode cX0_one 66 = .ok (.aload_n 0, 1) := dk_42 (dk_at dksX0_one_2 22 rfl rfl)
theorem dX0_one_67 : decode cX0_one 67 = .ok (.dup, 1) := dk_89 (dk_at dksX0_one_2 23 rfl rfl)
theorem dX0_one_68 : decode cX0_one 68 = .ok (.getfield 204, 3) := dk_180 0 204 (dk_at dksX0_one_3 0 rfl rfl)
theorem dX0_one_71 : decode cX0_one 71 = .ok (.iconst 1, 1) := dk_4 (dk_at dksX0_one_3 3 rfl rfl)
theorem dX0_one_72 : decode cX0_one 72 = .ok (.isub, 1) := dk_100 (dk_at dksX0_one_3 4 rfl rfl)
theorem dX0_one_73 : decode cX0_one 73 = .ok (.putfield 204, 3) := dk_181 0 204 (dk_at dksX0_one_3 5 rfl rfl)
theorem dX0_one_76 : decode cX0_one 76 = .ok (.new 229, 3) := dk_187 0 229 (dk_at dksX0_one_3 8 rfl rfl)
theorem dX0_one_79 : decode cX0_one 79 = .ok (.dup, 1) := dk_89 (dk_at dksX0_one_3 11 rfl rfl)
theorem dX0_one_80 : decode cX0_one 80 = .ok (.aload_n 2, 1) := dk_44 (dk_at dksX0_one_3 12 rfl rfl)
theorem dX0_one_81 : decode cX0_one 81 = .ok (.iconst 1, 1) := dk_4 (dk_at dksX0_one_3 13 rfl rfl)
theorem dX0_one_82 : decode cX0_one 82 = .ok (.invokespecial 231, 3) := dk_183 0 231 (dk_at dksX0_one_3 14 rfl rfl)
theorem dX0_one_85 : decode cX0_one 85 = .ok (.areturn, 1) := dk_176 (dk_at dksX0_one_3 17 rfl rfl)
theorem dX0_one_86 : decode cX0_one 86 = .ok (.aload_n 0, 1) := dk_42 (dk_at dksX0_one_3 18 rfl rfl)
theorem dX0_one_87 : decode cX0_one 87 = .ok (.bipush 40, 2) := dk_16 40 (dk_at dksX0_one_3 19 rfl rfl)
theorem dX0_one_89 : decode cX0_one 89 = .ok (.invokevirtual 237, 3) := dk_182 0 237 (dk_at dksX0_one_3 21 rfl rfl)
theorem dX0_one_92 : decode cX0_one 92 = .ok (.ifCond .ne 8, 3) := dk_154 0 8 (dk_at dksX0_one_4 0 rfl rfl)
theorem dX0_one_95 : decode cX0_one 95 = .ok (.aload_n 0, 1) := dk_42 (dk_at dksX0_one_4 3 rfl rfl)
theorem dX0_one_96 : decode cX0_one 96 = .ok (.getfield 180, 3) := dk_180 0 180 (dk_at dksX0_one_4 4 rfl rfl)
theorem dX0_one_99 : decode cX0_one 99 = .ok (.athrow, 1) := dk_191 (dk_at dksX0_one_4 7 rfl rfl)
theorem dX0_one_100 : decode cX0_one 100 = .ok (.aload_n 0, 1) := dk_42 (dk_at dksX0_one_4 8 rfl rfl)
theorem dX0_one_101 : decode cX0_one 101 = .ok (.invokevirtual 226, 3) := dk_182 0 226 (dk_at dksX0_one_4 9 rfl rfl)
theorem dX0_one_104 : decode cX0_one 104 = .ok (.aload_n 0, 1) := dk_42 (dk_at dksX0_one_4 12 rfl rfl)
theorem dX0_one_105 : decode cX0_one 105 = .ok (.invokevirtual 256, 3) := dk_182 1 0 (dk_at dksX0_one_4 13 rfl rfl)
theorem dX0_one_108 : decode cX0_one 108 = .ok (.astore_n 2, 1) := dk_77 (dk_at dksX0_one_4 16 rfl rfl)
theorem dX0_one_109 : decode cX0_one 109 = .ok (.aload_n 0, 1) := dk_42 (dk_at dksX0_one_4 17 rfl rfl)
theorem dX0_one_110 : decode cX0_one 110 = .ok (.bipush 41, 2) := dk_16 41 (dk_at dksX0_one_4 18 rfl rfl)
theorem dX0_one_112 : decode cX0_one 112 = .ok (.invokevirtual 237, 3) := dk_182 0 237 (dk_at dksX0_one_4 20 rfl rfl)
theorem dX0_one_115 : decode cX0_one 115 = .ok (.ifCond .ne 8, 3) := dk_154 0 8 (dk_at dksX0_one_5 0 rfl rfl)
theorem dX0_one_118 : decode cX0_one 118 = .ok (.aload_n 0, 1) := dk_42 (dk_at dksX0_one_5 3 rfl rfl)
theorem dX0_one_119 : decode cX0_one 119 = .ok (.getfield 180, 3) := dk_180 0 180 (dk_at dksX0_one_5 4 rfl rfl)
theorem dX0_one_122 : decode cX0_one 122 = .ok (.athrow, 1) := dk_191 (dk_at dksX0_one_5 7 rfl rfl)
theorem dX0_one_123 : decode cX0_one 123 = .ok (.aload_n 0, 1) := dk_42 (dk_at dksX0_one_5 8 rfl rfl)
theorem dX0_one_124 : decode cX0_one 124 = .ok (.dup, 1) := dk_89 (dk_at dksX0_one_5 9 rfl rfl)
theorem dX0_one_125 : decode cX0_one 125 = .ok (.getfield 204, 3) := dk_180 0 204 (dk_at dksX0_one_5 10 rfl rfl)
theorem dX0_one_128 : decode cX0_one 128 = .ok (.iconst 1, 1) := dk_4 (dk_at dksX0_one_5 13 rfl rfl)
theorem dX0_one_129 : decode cX0_one 129 = .ok (.isub, 1) := dk_100 (dk_at dksX0_one_5 14 rfl rfl)
theorem dX0_one_130 : decode cX0_one 130 = .ok (.putfield 204, 3) := dk_181 0 204 (dk_at dksX0_one_5 15 rfl rfl)
theorem dX0_one_133 : decode cX0_one 133 = .ok (.aload_n 0, 1) := dk_42 (dk_at dksX0_one_5 18 rfl rfl)
theorem dX0_one_134 : decode cX0_one 134 = .ok (.invokevirtual 201, 3) := dk_182 0 201 (dk_at dksX0_one_5 19 rfl rfl)
theorem dX0_one_137 : decode cX0_one 137 = .ok (.aload_n 2, 1) := dk_44 (dk_at dksX0_one_5 22 rfl rfl)
theorem dX0_one_138 : decode cX0_one 138 = .ok (.areturn, 1) := dk_176 (dk_at dksX0_one_5 23 rfl rfl)
abbrev cX0_isSign : ByteArray := prog_1_method_23_code
def yX0_isSign : MethodName := ⟨RX0, "isSign", "(I)Z"⟩
def dkwX0_isSign_0 : List UInt8 := [42, 180, 0, 154, 7, 160, 0, 15, 42, 180, 0, 170, 27, 160, 0, 7, 4, 167, 0, 4, 3, 172]
abbrev dktX0_isSign_0 : List UInt8 := dkwX0_isSign_0 ++ []
theorem dksX0_isSign_0 : cX0_isSign.data.toList.drop 0 = dktX0_isSign_0 := by decide +kernel
theorem dX0_isSign_0 : decode cX0_isSign 0 = .ok (.aload_n 0, 1) := dk_42 (dk_at dksX0_isSign_0 0 rfl rfl)
theorem dX0_isSign_1 : decode cX0_isSign 1 = .ok (.getfield 154, 3) := dk_180 0 154 (dk_at dksX0_isSign_0 1 rfl rfl)
theorem dX0_isSign_4 : decode cX0_isSign 4 = .ok (.iconst 4, 1) := dk_7 (dk_at dksX0_isSign_0 4 rfl rfl)
theorem dX0_isSign_5 : decode cX0_isSign 5 = .ok (.if_icmp .ne 15, 3) := dk_160 0 15 (dk_at dksX0_isSign_0 5 rfl rfl)
theorem dX0_isSign_8 : decode cX0_isSign 8 = .ok (.aload_n 0, 1) := dk_42 (dk_at dksX0_isSign_0 8 rfl rfl)
theorem dX0_isSign_9 : decode cX0_isSign 9 = .ok (.getfield 170, 3) := dk_180 0 170 (dk_at dksX0_isSign_0 9 rfl rfl)
theorem dX0_isSign_12 : decode cX0_isSign 12 = .ok (.iload_n 1, 1) := dk_27 (dk_at dksX0_isSign_0 12 rfl rfl)
theorem dX0_isSign_13 : decode cX0_isSign 13 = .ok (.if_icmp .ne 7, 3) := dk_160 0 7 (dk_at dksX0_isSign_0 13 rfl rfl)
theorem dX0_isSign_16 : decode cX0_isSign 16 = .ok (.iconst 1, 1) := dk_4 (dk_at dksX0_isSign_0 16 rfl rfl)
theorem dX0_isSign_17 : decode cX0_isSign 17 = .ok (.goto 4, 3) := dk_167 0 4 (dk_at dksX0_isSign_0 17 rfl rfl)
theorem dX0_isSign_20 : decode cX0_isSign 20 = .ok (.iconst 0, 1) := dk_3 (dk_at dksX0_isSign_0 20 rfl rfl)
theorem dX0_isSign_21 : decode cX0_isSign 21 = .ok (.ireturn, 1) := dk_172 (dk_at dksX0_isSign_0 21 rfl rfl)
abbrev cX0_init : ByteArray := prog_1_method_38_code
def yX0_init : MethodName := ⟨RX0, "<init>", "()V"⟩
def dkwX0_init_11 : List UInt8 := [19, 1, 80, 182, 1, 82, 177]
abbrev dktX0_init_11 : List UInt8 := dkwX0_init_11 ++ []
def dkwX0_init_10 : List UInt8 := [89, 5, 187, 1, 73, 89, 183, 1, 75, 83, 89, 6, 187, 1, 73, 89, 183, 1, 75, 83, 181, 1, 76, 42]
abbrev dktX0_init_10 : List UInt8 := dkwX0_init_10 ++ dktX0_init_11
def dkwX0_init_9 : List UInt8 := [7, 189, 1, 73, 89, 3, 187, 1, 73, 89, 183, 1, 75, 83, 89, 4, 187, 1, 73, 89, 183, 1, 75, 83]
abbrev dktX0_init_9 : List UInt8 := dkwX0_init_9 ++ dktX0_init_10
def dkwX0_init_8 : List UInt8 := [188, 10, 181, 1, 64, 42, 8, 16, 6, 197, 1, 48, 2, 181, 1, 67, 42, 6, 188, 10, 181, 1, 70, 42]
abbrev dktX0_init_8 : List UInt8 := dkwX0_init_8 ++ dktX0_init_9
def dkwX0_init_7 : List UInt8 := [42, 7, 16, 6, 16, 6, 197, 1, 56, 3, 181, 1, 58, 42, 16, 6, 188, 10, 181, 1, 61, 42, 7]
abbrev dktX0_init_7 : List UInt8 := dkwX0_init_7 ++ dktX0_init_8
def dkwX0_init_6 : List UInt8 := [188, 8, 181, 0, 133, 42, 16, 6, 7, 197, 1, 48, 2, 181, 1, 50, 42, 16, 6, 188, 10, 181, 1, 53]
abbrev dktX0_init_6 : List UInt8 := dkwX0_init_6 ++ dktX0_init_7
def dkwX0_init_5 : List UInt8 := [19, 1, 44, 83, 89, 7, 19, 1, 45, 83, 89, 8, 19, 1, 46, 83, 181, 0, 198, 42, 17, 0, 160]
abbrev dktX0_init_5 : List UInt8 := dkwX0_init_5 ++ dktX0_init_6
def dkwX0_init_4 : List UInt8 := [189, 0, 176, 89, 3, 19, 1, 40, 83, 89, 4, 19, 1, 42, 83, 89, 5, 19, 1, 43, 83, 89, 6]
abbrev dktX0_init_4 : List UInt8 := dkwX0_init_4 ++ dktX0_init_5
def dkwX0_init_3 : List UInt8 := [6, 19, 1, 35, 83, 89, 7, 19, 1, 37, 83, 89, 8, 19, 1, 39, 83, 181, 0, 190, 42, 16, 6]
abbrev dktX0_init_3 : List UInt8 := dkwX0_init_3 ++ dktX0_init_4
def dkwX0_init_2 : List UInt8 := [16, 6, 189, 0, 176, 89, 3, 19, 1, 29, 83, 89, 4, 19, 1, 31, 83, 89, 5, 19, 1, 33, 83, 89]
abbrev dktX0_init_2 : List UInt8 := dkwX0_init_2 ++ dktX0_init_3
def dkwX0_init_1 : List UInt8 := [181, 0, 71, 42, 187, 1, 8, 89, 183, 1, 26, 181, 0, 180, 42, 16, 6, 189, 1, 27, 181, 1, 10, 42]
abbrev dktX0_init_1 : List UInt8 := dkwX0_init_1 ++ dktX0_init_2
def dkwX0_init_0 : List UInt8 := [42, 183, 1, 22, 42, 16, 6, 189, 0, 40, 181, 0, 49, 42, 16, 100, 181, 0, 68, 42, 7, 188, 10]
abbrev dktX0_init_0 : List UInt8 := dkwX0_init_0 ++ dktX0_init_1
theorem dksX0_init_0 : cX0_init.data.toList.drop 0 = dktX0_init_0 := by decide +kernel
theorem dksX0_init_1 : cX0_init.data.toList.drop 23 = dktX0_init_1 := dk_seg dksX0_init_0 23 rfl rfl
theorem dksX0_init_2 : cX0_init.data.toList.drop 47 = dktX0_init_2 := dk_seg dksX0_init_1 24 rfl rfl
theorem dksX0_init_3 : cX0_init.data.toList.drop 71 = dktX0_init_3 := dk_seg dksX0_init_2 24 rfl rfl
theorem dksX0_init_4 : cX0_init.data.toList.drop 94 = dktX0_init_4 := dk_seg dksX0_init_3 23 rfl rfl
theorem dksX0_init_5 : cX0_init.data.toList.drop 117 = dktX0_init_5 := dk_seg dksX0_init_4 23 rfl rfl
theorem dksX0_init_6 : cX0_init.data.toList.drop 140 = dktX0_init_6 := dk_seg dksX0_init_5 23 rfl rfl
theorem dksX0_init_7 : cX0_init.data.toList.drop 164 = dktX0_init_7 := dk_seg dksX0_init_6 24 rfl rfl
theorem dksX0_init_8 : cX0_init.data.toList.drop 187 = dktX0_init_8 := dk_seg dksX0_init_7 23 rfl rfl
theorem dksX0_init_9 : cX0_init.data.toList.drop 211 = dktX0_init_9 := dk_seg dksX0_init_8 24 rfl rfl
theorem dksX0_init_10 : cX0_init.data.toList.drop 235 = dktX0_init_10 := dk_seg dksX0_init_9 24 rfl rfl
theorem dksX0_init_11 : cX0_init.data.toList.drop 259 = dktX0_init_11 := dk_seg dksX0_init_10 24 rfl rfl
theorem dX0_init_0 : decode cX0_init 0 = .ok (.aload_n 0, 1) := dk_42 (dk_at dksX0_init_0 0 rfl rfl)
theorem dX0_init_1 : decode cX0_init 1 = .ok (.invokespecial 278, 3) := dk_183 1 22 (dk_at dksX0_init_0 1 rfl rfl)
theorem dX0_init_4 : decode cX0_init 4 = .ok (.aload_n 0, 1) := dk_42 (dk_at dksX0_init_0 4 rfl rfl)
theorem dX0_init_5 : decode cX0_init 5 = .ok (.bipush 6, 2) := dk_16 6 (dk_at dksX0_init_0 5 rfl rfl)
theorem dX0_init_7 : decode cX0_init 7 = .ok (.anewarray 40, 3) := dk_189 0 40 (dk_at dksX0_init_0 7 rfl rfl)
theorem dX0_init_10 : decode cX0_init 10 = .ok (.putfield 49, 3) := dk_181 0 49 (dk_at dksX0_init_0 10 rfl rfl)
theorem dX0_init_13 : decode cX0_init 13 = .ok (.aload_n 0, 1) := dk_42 (dk_at dksX0_init_0 13 rfl rfl)
theorem dX0_init_14 : decode cX0_init 14 = .ok (.bipush 100, 2) := dk_16 100 (dk_at dksX0_init_0 14 rfl rfl)
theorem dX0_init_16 : decode cX0_init 16 = .ok (.putfield 68, 3) := dk_181 0 68 (dk_at dksX0_init_0 16 rfl rfl)
theorem dX0_init_19 : decode cX0_init 19 = .ok (.aload_n 0, 1) := dk_42 (dk_at dksX0_init_0 19 rfl rfl)
theorem dX0_init_20 : decode cX0_init 20 = .ok (.iconst 4, 1) := dk_7 (dk_at dksX0_init_0 20 rfl rfl)
theorem dX0_init_21 : decode cX0_init 21 = .ok (.newarray .int, 2) := dk_188_10 (dk_at dksX0_init_0 21 rfl rfl)
theorem dX0_init_23 : decode cX0_init 23 = .ok (.putfield 71, 3) := dk_181 0 71 (dk_at dksX0_init_1 0 rfl rfl)
theorem dX0_init_26 : decode cX0_init 26 = .ok (.aload_n 0, 1) := dk_42 (dk_at dksX0_init_1 3 rfl rfl)
theorem dX0_init_27 : decode cX0_init 27 = .ok (.new 264, 3) := dk_187 1 8 (dk_at dksX0_init_1 4 rfl rfl)
theorem dX0_init_30 : decode cX0_init 30 = .ok (.dup, 1) := dk_89 (dk_at dksX0_init_1 7 rfl rfl)
theorem dX0_init_31 : decode cX0_init 31 = .ok (.invokespecial 282, 3) := dk_183 1 26 (dk_at dksX0_init_1 8 rfl rfl)
theorem dX0_init_34 : decode cX0_init 34 = .ok (.putfield 180, 3) := dk_181 0 180 (dk_at dksX0_init_1 11 rfl rfl)
theorem dX0_init_37 : decode cX0_init 37 = .ok (.aload_n 0, 1) := dk_42 (dk_at dksX0_init_1 14 rfl rfl)
theorem dX0_init_38 : decode cX0_init 38 = .ok (.bipush 6, 2) := dk_16 6 (dk_at dksX0_init_1 15 rfl rfl)
theorem dX0_init_40 : decode cX0_init 40 = .ok (.anewarray 283, 3) := dk_189 1 27 (dk_at dksX0_init_1 17 rfl rfl)
theorem dX0_init_43 : decode cX0_init 43 = .ok (.putfield 266, 3) := dk_181 1 10 (dk_at dksX0_init_1 20 rfl rfl)
theorem dX0_init_46 : decode cX0_init 46 = .ok (.aload_n 0, 1) := dk_42 (dk_at dksX0_init_1 23 rfl rfl)
theorem dX0_init_47 : decode cX0_init 47 = .ok (.bipush 6, 2) := dk_16 6 (dk_at dksX0_init_2 0 rfl rfl)
theorem dX0_init_49 : decode cX0_init 49 = .ok (.anewarray 176, 3) := dk_189 0 176 (dk_at dksX0_init_2 2 rfl rfl)
theorem dX0_init_52 : decode cX0_init 52 = .ok (.dup, 1) := dk_89 (dk_at dksX0_init_2 5 rfl rfl)
theorem dX0_init_53 : decode cX0_init 53 = .ok (.iconst 0, 1) := dk_3 (dk_at dksX0_init_2 6 rfl rfl)
theorem dX0_init_54 : decode cX0_init 54 = .ok (.ldc_w 285, 3) := dk_19 1 29 (dk_at dksX0_init_2 7 rfl rfl)
theorem dX0_init_57 : decode cX0_init 57 = .ok (.aastore, 1) := dk_83 (dk_at dksX0_init_2 10 rfl rfl)
theorem dX0_init_58 : decode cX0_init 58 = .ok (.dup, 1) := dk_89 (dk_at dksX0_init_2 11 rfl rfl)
theorem dX0_init_59 : decode cX0_init 59 = .ok (.iconst 1, 1) := dk_4 (dk_at dksX0_init_2 12 rfl rfl)
theorem dX0_init_60 : decode cX0_init 60 = .ok (.ldc_w 287, 3) := dk_19 1 31 (dk_at dksX0_init_2 13 rfl rfl)
theorem dX0_init_63 : decode cX0_init 63 = .ok (.aastore, 1) := dk_83 (dk_at dksX0_init_2 16 rfl rfl)
theorem dX0_init_64 : decode cX0_init 64 = .ok (.dup, 1) := dk_89 (dk_at dksX0_init_2 17 rfl rfl)
theorem dX0_init_65 : decode cX0_init 65 = .ok (.iconst 2, 1) := dk_5 (dk_at dksX0_init_2 18 rfl rfl)
theorem dX0_init_66 : decode cX0_init 66 = .ok (.ldc_w 289, 3) := dk_19 1 33 (dk_at dksX0_init_2 19 rfl rfl)
theorem dX0_init_69 : decode cX0_init 69 = .ok (.aastore, 1) := dk_83 (dk_at dksX0_init_2 22 rfl rfl)
theorem dX0_init_70 : decode cX0_init 70 = .ok (.dup, 1) := dk_89 (dk_at dksX0_init_2 23 rfl rfl)
theorem dX0_init_71 : decode cX0_init 71 = .ok (.iconst 3, 1) := dk_6 (dk_at dksX0_init_3 0 rfl rfl)
theorem dX0_init_72 : decode cX0_init 72 = .ok (.ldc_w 291, 3) := dk_19 1 35 (dk_at dksX0_init_3 1 rfl rfl)
theorem dX0_init_75 : decode cX0_init 75 = .ok (.aastore, 1) := dk_83 (dk_at dksX0_init_3 4 rfl rfl)
theorem dX0_init_76 : decode cX0_init 76 = .ok (.dup, 1) := dk_89 (dk_at dksX0_init_3 5 rfl rfl)
theorem dX0_init_77 : decode cX0_init 77 = .ok (.iconst 4, 1) := dk_7 (dk_at dksX0_init_3 6 rfl rfl)
theorem dX0_init_78 : decode cX0_init 78 = .ok (.ldc_w 293, 3) := dk_19 1 37 (dk_at dksX0_init_3 7 rfl rfl)
theorem dX0_init_81 : decode cX0_init 81 = .ok (.aastore, 1) := dk_83 (dk_at dksX0_init_3 10 rfl rfl)
theorem dX0_init_82 : decode cX0_init 82 = .ok (.dup, 1) := dk_89 (dk_at dksX0_init_3 11 rfl rfl)
theorem dX0_init_83 : decode cX0_init 83 = .ok (.iconst 5, 1) := dk_8 (dk_at dksX0_init_3 12 rfl rfl)
theorem dX0_init_84 : decode cX0_init 84 = .ok (.ldc_w 295, 3) := dk_19 1 39 (dk_at dksX0_init_3 13 rfl rfl)
theorem dX0_init_87 : decode cX0_init 87 = .ok (.aastore, 1) := dk_83 (dk_at dksX0_init_3 16 rfl rfl)
theorem dX0_init_88 : decode cX0_init 88 = .ok (.putfield 190, 3) := dk_181 0 190 (dk_at dksX0_init_3 17 rfl rfl)
theorem dX0_init_91 : decode cX0_init 91 = .ok (.aload_n 0, 1) := dk_42 (dk_at dksX0_init_3 20 rfl rfl)
theorem dX0_init_92 : decode cX0_init 92 = .ok (.bipush 6, 2) := dk_16 6 (dk_at dksX0_init_3 21 rfl rfl)
theorem dX0_init_94 : decode cX0_init 94 = .ok (.anewarray 176, 3) := dk_189 0 176 (dk_at dksX0_init_4 0 rfl rfl)
theorem dX0_init_97 : decode cX0_init 97 = .ok (.dup, 1) := dk_89 (dk_at dksX0_init_4 3 rfl rfl)
theorem dX0_init_98 : decode cX0_init 98 = .ok (.iconst 0, 1) := dk_3 (dk_at dksX0_init_4 4 rfl rfl)
theorem dX0_init_99 : decode cX0_init 99 = .ok (.ldc_w 296, 3) := dk_19 1 40 (dk_at dksX0_init_4 5 rfl rfl)
theorem dX0_init_102 : decode cX0_init 102 = .ok (.aastore, 1) := dk_83 (dk_at dksX0_init_4 8 rfl rfl)
theorem dX0_init_103 : decode cX0_init 103 = .ok (.dup, 1) := dk_89 (dk_at dksX0_init_4 9 rfl rfl)
theorem dX0_init_104 : decode cX0_init 104 = .ok (.iconst 1, 1) := dk_4 (dk_at dksX0_init_4 10 rfl rfl)
theorem dX0_init_105 : decode cX0_init 105 = .ok (.ldc_w 298, 3) := dk_19 1 42 (dk_at dksX0_init_4 11 rfl rfl)
theorem dX0_init_108 : decode cX0_init 108 = .ok (.aastore, 1) := dk_83 (dk_at dksX0_init_4 14 rfl rfl)
theorem dX0_init_109 : decode cX0_init 109 = .ok (.dup, 1) := dk_89 (dk_at dksX0_init_4 15 rfl rfl)
theorem dX0_init_110 : decode cX0_init 110 = .ok (.iconst 2, 1) := dk_5 (dk_at dksX0_init_4 16 rfl rfl)
theorem dX0_init_111 : decode cX0_init 111 = .ok (.ldc_w 299, 3) := dk_19 1 43 (dk_at dksX0_init_4 17 rfl rfl)
theorem dX0_init_114 : decode cX0_init 114 = .ok (.aastore, 1) := dk_83 (dk_at dksX0_init_4 20 rfl rfl)
theorem dX0_init_115 : decode cX0_init 115 = .ok (.dup, 1) := dk_89 (dk_at dksX0_init_4 21 rfl rfl)
theorem dX0_init_116 : decode cX0_init 116 = .ok (.iconst 3, 1) := dk_6 (dk_at dksX0_init_4 22 rfl rfl)
theorem dX0_init_117 : decode cX0_init 117 = .ok (.ldc_w 300, 3) := dk_19 1 44 (dk_at dksX0_init_5 0 rfl rfl)
theorem dX0_init_120 : decode cX0_init 120 = .ok (.aastore, 1) := dk_83 (dk_at dksX0_init_5 3 rfl rfl)
theorem dX0_init_121 : decode cX0_init 121 = .ok (.dup, 1) := dk_89 (dk_at dksX0_init_5 4 rfl rfl)
theorem dX0_init_122 : decode cX0_init 122 = .ok (.iconst 4, 1) := dk_7 (dk_at dksX0_init_5 5 rfl rfl)
theorem dX0_init_123 : decode cX0_init 123 = .ok (.ldc_w 301, 3) := dk_19 1 45 (dk_at dksX0_init_5 6 rfl rfl)
theorem dX0_init_126 : decode cX0_init 126 = .ok (.aastore, 1) := dk_83 (dk_at dksX0_init_5 9 rfl rfl)
theorem dX0_init_127 : decode cX0_init 127 = .ok (.dup, 1) := dk_89 (dk_at dksX0_init_5 10 rfl rfl)
theorem dX0_init_128 : decode cX0_init 128 = .ok (.iconst 5, 1) := dk_8 (dk_at dksX0_init_5 11 rfl rfl)
theorem dX0_init_129 : decode cX0_init 129 = .ok (.ldc_w 302, 3) := dk_19 1 46 (dk_at dksX0_init_5 12 rfl rfl)
theorem dX0_init_132 : decode cX0_init 132 = .ok (.aastore, 1) := dk_83 (dk_at dksX0_init_5 15 rfl rfl)
theorem dX0_init_133 : decode cX0_init 133 = .ok (.putfield 198, 3) := dk_181 0 198 (dk_at dksX0_init_5 16 rfl rfl)
theorem dX0_init_136 : decode cX0_init 136 = .ok (.aload_n 0, 1) := dk_42 (dk_at dksX0_init_5 19 rfl rfl)
theorem dX0_init_137 : decode cX0_init 137 = .ok (.sipush 160, 3) := dk_17 0 160 (dk_at dksX0_init_5 20 rfl rfl)
theorem dX0_init_140 : decode cX0_init 140 = .ok (.newarray .byte, 2) := dk_188_8 (dk_at dksX0_init_6 0 rfl rfl)
theorem dX0_init_142 : decode cX0_init 142 = .ok (.putfield 133, 3) := dk_181 0 133 (dk_at dksX0_init_6 2 rfl rfl)
theorem dX0_init_145 : decode cX0_init 145 = .ok (.aload_n 0, 1) := dk_42 (dk_at dksX0_init_6 5 rfl rfl)
theorem dX0_init_146 : decode cX0_init 146 = .ok (.bipush 6, 2) := dk_16 6 (dk_at dksX0_init_6 6 rfl rfl)
theorem dX0_init_148 : decode cX0_init 148 = .ok (.iconst 4, 1) := dk_7 (dk_at dksX0_init_6 8 rfl rfl)
theorem dX0_init_149 : decode cX0_init 149 = .ok (.multianewarray 304 2, 4) := by decide +kernel
theorem dX0_init_153 : decode cX0_init 153 = .ok (.putfield 306, 3) := dk_181 1 50 (dk_at dksX0_init_6 13 rfl rfl)
theorem dX0_init_156 : decode cX0_init 156 = .ok (.aload_n 0, 1) := dk_42 (dk_at dksX0_init_6 16 rfl rfl)
theorem dX0_init_157 : decode cX0_init 157 = .ok (.bipush 6, 2) := dk_16 6 (dk_at dksX0_init_6 17 rfl rfl)
theorem dX0_init_159 : decode cX0_init 159 = .ok (.newarray .int, 2) := dk_188_10 (dk_at dksX0_init_6 19 rfl rfl)
theorem dX0_init_161 : decode cX0_init 161 = .ok (.putfield 309, 3) := dk_181 1 53 (dk_at dksX0_init_6 21 rfl rfl)
theorem dX0_init_164 : decode cX0_init 164 = .ok (.aload_n 0, 1) := dk_42 (dk_at dksX0_init_7 0 rfl rfl)
theorem dX0_init_165 : decode cX0_init 165 = .ok (.iconst 4, 1) := dk_7 (dk_at dksX0_init_7 1 rfl rfl)
theorem dX0_init_166 : decode cX0_init 166 = .ok (.bipush 6, 2) := dk_16 6 (dk_at dksX0_init_7 2 rfl rfl)
theorem dX0_init_168 : decode cX0_init 168 = .ok (.bipush 6, 2) := dk_16 6 (dk_at dksX0_init_7 4 rfl rfl)
theorem dX0_init_170 : decode cX0_init 170 = .ok (.multianewarray 312 3, 4) := by decide +kernel
theorem dX0_init_174 : decode cX0_init 174 = .ok (.putfield 314, 3) := dk_181 1 58 (dk_at dksX0_init_7 10 rfl rfl)
theorem dX0_init_177 : decode cX0_init 177 = .ok (.aload_n 0, 1) := dk_42 (dk_at dksX0_init_7 13 rfl rfl)
theorem dX0_init_178 : decode cX0_init 178 = .ok (.bipush 6, 2) := dk_16 6 (dk_at dksX0_init_7 14 rfl rfl)
theorem dX0_init_180 : decode cX0_init 180 = .ok (.newarray .int, 2) := dk_188_10 (dk_at dksX0_init_7 16 rfl rfl)
theorem dX0_init_182 : decode cX0_init 182 = .ok (.putfield 317, 3) := dk_181 1 61 (dk_at dksX0_init_7 18 rfl rfl)
theorem dX0_init_185 : decode cX0_init 185 = .ok (.aload_n 0, 1) := dk_42 (dk_at dksX0_init_7 21 rfl rfl)
theorem dX0_init_186 : decode cX0_init 186 = .ok (.iconst 4, 1) := dk_7 (dk_at dksX0_init_7 22 rfl rfl)
theorem dX0_init_187 : decode cX0_init 187 = .ok (.newarray .int, 2) := dk_188_10 (dk_at dksX0_init_8 0 rfl rfl)
theorem dX0_init_189 : decode cX0_init 189 = .ok (.putfield 320, 3) := dk_181 1 64 (dk_at dksX0_init_8 2 rfl rfl)
theorem dX0_init_192 : decode cX0_init 192 = .ok (.aload_n 0, 1) := dk_42 (dk_at dksX0_init_8 5 rfl rfl)
theorem dX0_init_193 : decode cX0_init 193 = .ok (.iconst 5, 1) := dk_8 (dk_at dksX0_init_8 6 rfl rfl)
theorem dX0_init_194 : decode cX0_init 194 = .ok (.bipush 6, 2) := dk_16 6 (dk_at dksX0_init_8 7 rfl rfl)
theorem dX0_init_196 : decode cX0_init 196 = .ok (.multianewarray 304 2, 4) := by decide +kernel
theorem dX0_init_200 : decode cX0_init 200 = .ok (.putfield 323, 3) := dk_181 1 67 (dk_at dksX0_init_8 13 rfl rfl)
theorem dX0_init_203 : decode cX0_init 203 = .ok (.aload_n 0, 1) := dk_42 (dk_at dksX0_init_8 16 rfl rfl)
theorem dX0_init_204 : decode cX0_init 204 = .ok (.iconst 3, 1) := dk_6 (dk_at dksX0_init_8 17 rfl rfl)
theorem dX0_init_205 : decode cX0_init 205 = .ok (.newarray .int, 2) := dk_188_10 (dk_at dksX0_init_8 18 rfl rfl)
theorem dX0_init_207 : decode cX0_init 207 = .ok (.putfield 326, 3) := dk_181 1 70 (dk_at dksX0_init_8 20 rfl rfl)
theorem dX0_init_210 : decode cX0_init 210 = .ok (.aload_n 0, 1) := dk_42 (dk_at dksX0_init_8 23 rfl rfl)
theorem dX0_init_211 : decode cX0_init 211 = .ok (.iconst 4, 1) := dk_7 (dk_at dksX0_init_9 0 rfl rfl)
theorem dX0_init_212 : decode cX0_init 212 = .ok (.anewarray 329, 3) := dk_189 1 73 (dk_at dksX0_init_9 1 rfl rfl)
theorem dX0_init_215 : decode cX0_init 215 = .ok (.dup, 1) := dk_89 (dk_at dksX0_init_9 4 rfl rfl)
theorem dX0_init_216 : decode cX0_init 216 = .ok (.iconst 0, 1) := dk_3 (dk_at dksX0_init_9 5 rfl rfl)
theorem dX0_init_217 : decode cX0_init 217 = .ok (.new 329, 3) := dk_187 1 73 (dk_at dksX0_init_9 6 rfl rfl)
theorem dX0_init_220 : decode cX0_init 220 = .ok (.dup, 1) := dk_89 (dk_at dksX0_init_9 9 rfl rfl)
theorem dX0_init_221 : decode cX0_init 221 = .ok (.invokespecial 331, 3) := dk_183 1 75 (dk_at dksX0_init_9 10 rfl rfl)
theorem dX0_init_224 : decode cX0_init 224 = .ok (.aastore, 1) := dk_83 (dk_at dksX0_init_9 13 rfl rfl)
theorem dX0_init_225 : decode cX0_init 225 = .ok (.dup, 1) := dk_89 (dk_at dksX0_init_9 14 rfl rfl)
theorem dX0_init_226 : decode cX0_init 226 = .ok (.iconst 1, 1) := dk_4 (dk_at dksX0_init_9 15 rfl rfl)
theorem dX0_init_227 : decode cX0_init 227 = .ok (.new 329, 3) := dk_187 1 73 (dk_at dksX0_init_9 16 rfl rfl)
theorem dX0_init_230 : decode cX0_init 230 = .ok (.dup, 1) := dk_89 (dk_at dksX0_init_9 19 rfl rfl)
theorem dX0_init_231 : decode cX0_init 231 = .ok (.invokespecial 331, 3) := dk_183 1 75 (dk_at dksX0_init_9 20 rfl rfl)
theorem dX0_init_234 : decode cX0_init 234 = .ok (.aastore, 1) := dk_83 (dk_at dksX0_init_9 23 rfl rfl)
theorem dX0_init_235 : decode cX0_init 235 = .ok (.dup, 1) := dk_89 (dk_at dksX0_init_10 0 rfl rfl)
theorem dX0_init_236 : decode cX0_init 236 = .ok (.iconst 2, 1) := dk_5 (dk_at dksX0_init_10 1 rfl rfl)
theorem dX0_init_237 : decode cX0_init 237 = .ok (.new 329, 3) := dk_187 1 73 (dk_at dksX0_init_10 2 rfl rfl)
theorem dX0_init_240 : decode cX0_init 240 = .ok (.dup, 1) := dk_89 (dk_at dksX0_init_10 5 rfl rfl)
theorem dX0_init_241 : decode cX0_init 241 = .ok (.invokespecial 331, 3) := dk_183 1 75 (dk_at dksX0_init_10 6 rfl rfl)
theorem dX0_init_244 : decode cX0_init 244 = .ok (.aastore, 1) := dk_83 (dk_at dksX0_init_10 9 rfl rfl)
theorem dX0_init_245 : decode cX0_init 245 = .ok (.dup, 1) := dk_89 (dk_at dksX0_init_10 10 rfl rfl)
theorem dX0_init_246 : decode cX0_init 246 = .ok (.iconst 3, 1) := dk_6 (dk_at dksX0_init_10 11 rfl rfl)
theorem dX0_init_247 : decode cX0_init 247 = .ok (.new 329, 3) := dk_187 1 73 (dk_at dksX0_init_10 12 rfl rfl)
theorem dX0_init_250 : decode cX0_init 250 = .ok (.dup, 1) := dk_89 (dk_at dksX0_init_10 15 rfl rfl)
theorem dX0_init_251 : decode cX0_init 251 = .ok (.invokespecial 331, 3) := dk_183 1 75 (dk_at dksX0_init_10 16 rfl rfl)
theorem dX0_init_254 : decode cX0_init 254 = .ok (.aastore, 1) := dk_83 (dk_at dksX0_init_10 19 rfl rfl)
theorem dX0_init_255 : decode cX0_init 255 = .ok (.putfield 332, 3) := dk_181 1 76 (dk_at dksX0_init_10 20 rfl rfl)
theorem dX0_init_258 : decode cX0_init 258 = .ok (.aload_n 0, 1) := dk_42 (dk_at dksX0_init_10 23 rfl rfl)
theorem dX0_init_259 : decode cX0_init 259 = .ok (.ldc_w 336, 3) := dk_19 1 80 (dk_at dksX0_init_11 0 rfl rfl)
theorem dX0_init_262 : decode cX0_init 262 = .ok (.invokevirtual 338, 3) := dk_182 1 82 (dk_at dksX0_init_11 3 rfl rfl)
theorem dX0_init_265 : decode cX0_init 265 = .ok (.return_, 1) := dk_177 (dk_at dksX0_init_11 6 rfl rfl)
abbrev cX0_firstText : ByteArray := prog_1_method_34_code
def yX0_firstText : MethodName := ⟨RX0, "firstText", "(Ljava/lang/String;)V"⟩
def dkwX0_firstText_1 : List UInt8 := [132, 2, 1, 167, 255, 233, 42, 43, 182, 0, 184, 181, 1, 3, 42, 182, 1, 17, 61, 177]
abbrev dktX0_firstText_1 : List UInt8 := dkwX0_firstText_1 ++ []
def dkwX0_firstText_0 : List UInt8 := [3, 61, 28, 43, 182, 0, 184, 162, 0, 21, 42, 180, 0, 133, 28, 43, 28, 182, 0, 186, 145, 84]
abbrev dktX0_firstText_0 : List UInt8 := dkwX0_firstText_0 ++ dktX0_firstText_1
theorem dksX0_firstText_0 : cX0_firstText.data.toList.drop 0 = dktX0_firstText_0 := by decide +kernel
theorem dksX0_firstText_1 : cX0_firstText.data.toList.drop 22 = dktX0_firstText_1 := dk_seg dksX0_firstText_0 22 rfl rfl
theorem dX0_firstText_0 : decode cX0_firstText 0 = .ok (.iconst 0, 1) := dk_3 (dk_at dksX0_firstText_0 0 rfl rfl)
theorem dX0_firstText_1 : decode cX0_firstText 1 = .ok (.istore_n 2, 1) := dk_61 (dk_at dksX0_firstText_0 1 rfl rfl)
theorem dX0_firstText_2 : decode cX0_firstText 2 = .ok (.iload_n 2, 1) := dk_28 (dk_at dksX0_firstText_0 2 rfl rfl)
theorem dX0_firstText_3 : decode cX0_firstText 3 = .ok (.aload_n 1, 1) := dk_43 (dk_at dksX0_firstText_0 3 rfl rfl)
theorem dX0_firstText_4 : decode cX0_firstText 4 = .ok (.invokevirtual 184, 3) := dk_182 0 184 (dk_at dksX0_firstText_0 4 rfl rfl)
theorem dX0_firstText_7 : decode cX0_firstText 7 = .ok (.if_icmp .ge 21, 3) := dk_162 0 21 (dk_at dksX0_firstText_0 7 rfl rfl)
theorem dX0_firstText_10 : decode cX0_firstText 10 = .ok (.aload_n 0, 1) := dk_42 (dk_at dksX0_firstText_0 10 rfl rfl)
theorem dX0_firstText_11 : decode cX0_firstText 11 = .ok (.getfield 133, 3) := dk_180 0 133 (dk_at dksX0_firstText_0 11 rfl rfl)
theorem dX0_firstText_14 : decode cX0_firstText 14 = .ok (.iload_n 2, 1) := dk_28 (dk_at dksX0_firstText_0 14 rfl rfl)
theorem dX0_firstText_15 : decode cX0_firstText 15 = .ok (.aload_n 1, 1) := dk_43 (dk_at dksX0_firstText_0 15 rfl rfl)
theorem dX0_firstText_16 : decode cX0_firstText 16 = .ok (.iload_n 2, 1) := dk_28 (dk_at dksX0_firstText_0 16 rfl rfl)
theorem dX0_firstText_17 : decode cX0_firstText 17 = .ok (.invokevirtual 186, 3) := dk_182 0 186 (dk_at dksX0_firstText_0 17 rfl rfl)
theorem dX0_firstText_20 : decode cX0_firstText 20 = .ok (.i2b, 1) := dk_145 (dk_at dksX0_firstText_0 20 rfl rfl)
theorem dX0_firstText_21 : decode cX0_firstText 21 = .ok (.bastore, 1) := dk_84 (dk_at dksX0_firstText_0 21 rfl rfl)
theorem dX0_firstText_22 : decode cX0_firstText 22 = .ok (.iinc 2 1, 3) := dk_132 2 1 (dk_at dksX0_firstText_1 0 rfl rfl)
theorem dX0_firstText_25 : decode cX0_firstText 25 = .ok (.goto (-23), 3) := dk_167 255 233 (dk_at dksX0_firstText_1 3 rfl rfl)
theorem dX0_firstText_28 : decode cX0_firstText 28 = .ok (.aload_n 0, 1) := dk_42 (dk_at dksX0_firstText_1 6 rfl rfl)
theorem dX0_firstText_29 : decode cX0_firstText 29 = .ok (.aload_n 1, 1) := dk_43 (dk_at dksX0_firstText_1 7 rfl rfl)
theorem dX0_firstText_30 : decode cX0_firstText 30 = .ok (.invokevirtual 184, 3) := dk_182 0 184 (dk_at dksX0_firstText_1 8 rfl rfl)
theorem dX0_firstText_33 : decode cX0_firstText 33 = .ok (.putfield 259, 3) := dk_181 1 3 (dk_at dksX0_firstText_1 11 rfl rfl)
theorem dX0_firstText_36 : decode cX0_firstText 36 = .ok (.aload_n 0, 1) := dk_42 (dk_at dksX0_firstText_1 14 rfl rfl)
theorem dX0_firstText_37 : decode cX0_firstText 37 = .ok (.invokevirtual 273, 3) := dk_182 1 17 (dk_at dksX0_firstText_1 15 rfl rfl)
theorem dX0_firstText_40 : decode cX0_firstText 40 = .ok (.istore_n 2, 1) := dk_61 (dk_at dksX0_firstText_1 18 rfl rfl)
theorem dX0_firstText_41 : decode cX0_firstText 41 = .ok (.return_, 1) := dk_177 (dk_at dksX0_firstText_1 19 rfl rfl)
abbrev cX0_force : ByteArray := prog_1_method_39_code
def yX0_force : MethodName := ⟨RX0, "force", "(I)I"⟩
def dkwX0_force_0 : List UInt8 := [42, 27, 182, 1, 86, 154, 0, 6, 16, 254, 172, 42, 180, 1, 89, 61, 42, 27, 181, 1, 89, 28, 172]
abbrev dktX0_force_0 : List UInt8 := dkwX0_force_0 ++ []
theorem dksX0_force_0 : cX0_force.data.toList.drop 0 = dktX0_force_0 := by decide +kernel
theorem dX0_force_0 : decode cX0_force 0 = .ok (.aload_n 0, 1) := dk_42 (dk_at dksX0_force_0 0 rfl rfl)
theorem dX0_force_1 : decode cX0_force 1 = .ok (.iload_n 1, 1) := dk_27 (dk_at dksX0_force_0 1 rfl rfl)
theorem dX0_force_2 : decode cX0_force 2 = .ok (.invokevirtual 342, 3) := dk_182 1 86 (dk_at dksX0_force_0 2 rfl rfl)
theorem dX0_force_5 : decode cX0_force 5 = .ok (.ifCond .ne 6, 3) := dk_154 0 6 (dk_at dksX0_force_0 5 rfl rfl)
theorem dX0_force_8 : decode cX0_force 8 = .ok (.bipush (-2), 2) := dk_16 254 (dk_at dksX0_force_0 8 rfl rfl)
theorem dX0_force_10 : decode cX0_force 10 = .ok (.ireturn, 1) := dk_172 (dk_at dksX0_force_0 10 rfl rfl)
theorem dX0_force_11 : decode cX0_force 11 = .ok (.aload_n 0, 1) := dk_42 (dk_at dksX0_force_0 11 rfl rfl)
theorem dX0_force_12 : decode cX0_force 12 = .ok (.getfield 345, 3) := dk_180 1 89 (dk_at dksX0_force_0 12 rfl rfl)
theorem dX0_force_15 : decode cX0_force 15 = .ok (.istore_n 2, 1) := dk_61 (dk_at dksX0_force_0 15 rfl rfl)
theorem dX0_force_16 : decode cX0_force 16 = .ok (.aload_n 0, 1) := dk_42 (dk_at dksX0_force_0 16 rfl rfl)
theorem dX0_force_17 : decode cX0_force 17 = .ok (.iload_n 1, 1) := dk_27 (dk_at dksX0_force_0 17 rfl rfl)
theorem dX0_force_18 : decode cX0_force 18 = .ok (.putfield 345, 3) := dk_181 1 89 (dk_at dksX0_force_0 18 rfl rfl)
theorem dX0_force_21 : decode cX0_force 21 = .ok (.iload_n 2, 1) := dk_28 (dk_at dksX0_force_0 21 rfl rfl)
theorem dX0_force_22 : decode cX0_force 22 = .ok (.ireturn, 1) := dk_172 (dk_at dksX0_force_0 22 rfl rfl)
abbrev cX0_isText : ByteArray := prog_1_method_37_code
def yX0_isText : MethodName := ⟨RX0, "isText", "(I)Z"⟩
def dkwX0_isText_0 : List UInt8 := [27, 133, 9, 42, 180, 1, 14, 4, 100, 133, 184, 0, 14, 172]
abbrev dktX0_isText_0 : List UInt8 := dkwX0_isText_0 ++ []
theorem dksX0_isText_0 : cX0_isText.data.toList.drop 0 = dktX0_isText_0 := by decide +kernel
theorem dX0_isText_0 : decode cX0_isText 0 = .ok (.iload_n 1, 1) := dk_27 (dk_at dksX0_isText_0 0 rfl rfl)
theorem dX0_isText_1 : decode cX0_isText 1 = .ok (.i2l, 1) := dk_133 (dk_at dksX0_isText_0 1 rfl rfl)
theorem dX0_isText_2 : decode cX0_isText 2 = .ok (.lconst 0, 1) := dk_9 (dk_at dksX0_isText_0 2 rfl rfl)
theorem dX0_isText_3 : decode cX0_isText 3 = .ok (.aload_n 0, 1) := dk_42 (dk_at dksX0_isText_0 3 rfl rfl)
theorem dX0_isText_4 : decode cX0_isText 4 = .ok (.getfield 270, 3) := dk_180 1 14 (dk_at dksX0_isText_0 4 rfl rfl)
theorem dX0_isText_7 : decode cX0_isText 7 = .ok (.iconst 1, 1) := dk_4 (dk_at dksX0_isText_0 7 rfl rfl)
theorem dX0_isText_8 : decode cX0_isText 8 = .ok (.isub, 1) := dk_100 (dk_at dksX0_isText_0 8 rfl rfl)
theorem dX0_isText_9 : decode cX0_isText 9 = .ok (.i2l, 1) := dk_133 (dk_at dksX0_isText_0 9 rfl rfl)
theorem dX0_isText_10 : decode cX0_isText 10 = .ok (.invokestatic 14, 3) := dk_184 0 14 (dk_at dksX0_isText_0 10 rfl rfl)
theorem dX0_isText_13 : decode cX0_isText 13 = .ok (.ireturn, 1) := dk_172 (dk_at dksX0_isText_0 13 rfl rfl)
abbrev cX0_light : ByteArray := prog_1_method_44_code
def yX0_light : MethodName := ⟨RX0, "light", "(III)I"⟩
def dkwX0_light_1 : List UInt8 := [20, 1, 121, 184, 0, 14, 153, 0, 13, 42, 27, 28, 29, 182, 1, 123, 167, 0, 5, 16, 254, 172]
abbrev dktX0_light_1 : List UInt8 := dkwX0_light_1 ++ []
def dkwX0_light_0 : List UInt8 := [42, 27, 182, 0, 65, 153, 0, 37, 28, 133, 9, 20, 1, 119, 184, 0, 14, 153, 0, 25, 29, 133, 9]
abbrev dktX0_light_0 : List UInt8 := dkwX0_light_0 ++ dktX0_light_1
theorem dksX0_light_0 : cX0_light.data.toList.drop 0 = dktX0_light_0 := by decide +kernel
theorem dksX0_light_1 : cX0_light.data.toList.drop 23 = dktX0_light_1 := dk_seg dksX0_light_0 23 rfl rfl
theorem dX0_light_0 : decode cX0_light 0 = .ok (.aload_n 0, 1) := dk_42 (dk_at dksX0_light_0 0 rfl rfl)
theorem dX0_light_1 : decode cX0_light 1 = .ok (.iload_n 1, 1) := dk_27 (dk_at dksX0_light_0 1 rfl rfl)
theorem dX0_light_2 : decode cX0_light 2 = .ok (.invokevirtual 65, 3) := dk_182 0 65 (dk_at dksX0_light_0 2 rfl rfl)
theorem dX0_light_5 : decode cX0_light 5 = .ok (.ifCond .eq 37, 3) := dk_153 0 37 (dk_at dksX0_light_0 5 rfl rfl)
theorem dX0_light_8 : decode cX0_light 8 = .ok (.iload_n 2, 1) := dk_28 (dk_at dksX0_light_0 8 rfl rfl)
theorem dX0_light_9 : decode cX0_light 9 = .ok (.i2l, 1) := dk_133 (dk_at dksX0_light_0 9 rfl rfl)
theorem dX0_light_10 : decode cX0_light 10 = .ok (.lconst 0, 1) := dk_9 (dk_at dksX0_light_0 10 rfl rfl)
theorem dX0_light_11 : decode cX0_light 11 = .ok (.ldc2_w 375, 3) := dk_20 1 119 (dk_at dksX0_light_0 11 rfl rfl)
theorem dX0_light_14 : decode cX0_light 14 = .ok (.invokestatic 14, 3) := dk_184 0 14 (dk_at dksX0_light_0 14 rfl rfl)
theorem dX0_light_17 : decode cX0_light 17 = .ok (.ifCond .eq 25, 3) := dk_153 0 25 (dk_at dksX0_light_0 17 rfl rfl)
theorem dX0_light_20 : decode cX0_light 20 = .ok (.iload_n 3, 1) := dk_29 (dk_at dksX0_light_0 20 rfl rfl)
theorem dX0_light_21 : decode cX0_light 21 = .ok (.i2l, 1) := dk_133 (dk_at dksX0_light_0 21 rfl rfl)
theorem dX0_light_22 : decode cX0_light 22 = .ok (.lconst 0, 1) := dk_9 (dk_at dksX0_light_0 22 rfl rfl)
theorem dX0_light_23 : decode cX0_light 23 = .ok (.ldc2_w 377, 3) := dk_20 1 121 (dk_at dksX0_light_1 0 rfl rfl)
theorem dX0_light_26 : decode cX0_light 26 = .ok (.invokestatic 14, 3) := dk_184 0 14 (dk_at dksX0_light_1 3 rfl rfl)
theorem dX0_light_29 : decode cX0_light 29 = .ok (.ifCond .eq 13, 3) := dk_153 0 13 (dk_at dksX0_light_1 6 rfl rfl)
theorem dX0_light_32 : decode cX0_light 32 = .ok (.aload_n 0, 1) := dk_42 (dk_at dksX0_light_1 9 rfl rfl)
theorem dX0_light_33 : decode cX0_light 33 = .ok (.iload_n 1, 1) := dk_27 (dk_at dksX0_light_1 10 rfl rfl)
theorem dX0_light_34 : decode cX0_light 34 = .ok (.iload_n 2, 1) := dk_28 (dk_at dksX0_light_1 11 rfl rfl)
theorem dX0_light_35 : decode cX0_light 35 = .ok (.iload_n 3, 1) := dk_29 (dk_at dksX0_light_1 12 rfl rfl)
theorem dX0_light_36 : decode cX0_light 36 = .ok (.invokevirtual 379, 3) := dk_182 1 123 (dk_at dksX0_light_1 13 rfl rfl)
theorem dX0_light_39 : decode cX0_light 39 = .ok (.goto 5, 3) := dk_167 0 5 (dk_at dksX0_light_1 16 rfl rfl)
theorem dX0_light_42 : decode cX0_light 42 = .ok (.bipush (-2), 2) := dk_16 254 (dk_at dksX0_light_1 19 rfl rfl)
theorem dX0_light_44 : decode cX0_light 44 = .ok (.ireturn, 1) := dk_172 (dk_at dksX0_light_1 21 rfl rfl)
abbrev cX0_house : ByteArray := prog_1_method_52_code
def yX0_house : MethodName := ⟨RX0, "house", "(I)I"⟩
def dkwX0_house_4 : List UInt8 := [172]
abbrev dktX0_house_4 : List UInt8 := dkwX0_house_4 ++ []
def dkwX0_house_3 : List UInt8 := [182, 1, 142, 153, 0, 7, 4, 167, 0, 4, 3, 172, 42, 182, 1, 146, 172, 42, 182, 1, 139, 172, 16, 254]
abbrev dktX0_house_3 : List UInt8 := dkwX0_house_3 ++ dktX0_house_4
def dkwX0_house_2 : List UInt8 := [42, 182, 1, 133, 172, 42, 182, 1, 136, 172, 42, 182, 1, 139, 154, 0, 7, 4, 167, 0, 4, 3, 172, 42]
abbrev dktX0_house_2 : List UInt8 := dkwX0_house_2 ++ dktX0_house_3
def dkwX0_house_1 : List UInt8 := [170, 0, 0, 0, 0, 0, 85, 0, 0, 0, 0, 0, 0, 0, 5, 0, 0, 0, 39, 0, 0, 0, 44, 0, 0, 0, 49, 0, 0, 0, 62, 0, 0, 0, 75, 0, 0, 0, 80]
abbrev dktX0_house_1 : List UInt8 := dkwX0_house_1 ++ dktX0_house_2
def dkwX0_house_0 : List UInt8 := [27]
abbrev dktX0_house_0 : List UInt8 := dkwX0_house_0 ++ dktX0_house_1
theorem dksX0_house_0 : cX0_house.data.toList.drop 0 = dktX0_house_0 := by decide +kernel
theorem dksX0_house_1 : cX0_house.data.toList.drop 1 = dktX0_house_1 := dk_seg dksX0_house_0 1 rfl rfl
theorem dksX0_house_2 : cX0_house.data.toList.drop 40 = dktX0_house_2 := dk_seg dksX0_house_1 39 rfl rfl
theorem dksX0_house_3 : cX0_house.data.toList.drop 64 = dktX0_house_3 := dk_seg dksX0_house_2 24 rfl rfl
theorem dksX0_house_4 : cX0_house.data.toList.drop 88 = dktX0_house_4 := dk_seg dksX0_house_3 24 rfl rfl
theorem dX0_house_0 : decode cX0_house 0 = .ok (.iload_n 1, 1) := dk_27 (dk_at dksX0_house_0 0 rfl rfl)
theorem dX0_house_1 : decode cX0_house 1 = .ok (.tableswitch 85 0 5 #[39, 44, 49, 62, 75, 80], 39) := by decide +kernel
theorem dX0_house_40 : decode cX0_house 40 = .ok (.aload_n 0, 1) := dk_42 (dk_at dksX0_house_2 0 rfl rfl)
theorem dX0_house_41 : decode cX0_house 41 = .ok (.invokevirtual 389, 3) := dk_182 1 133 (dk_at dksX0_house_2 1 rfl rfl)
theorem dX0_house_44 : decode cX0_house 44 = .ok (.ireturn, 1) := dk_172 (dk_at dksX0_house_2 4 rfl rfl)
theorem dX0_house_45 : decode cX0_house 45 = .ok (.aload_n 0, 1) := dk_42 (dk_at dksX0_house_2 5 rfl rfl)
theorem dX0_house_46 : decode cX0_house 46 = .ok (.invokevirtual 392, 3) := dk_182 1 136 (dk_at dksX0_house_2 6 rfl rfl)
theorem dX0_house_49 : decode cX0_house 49 = .ok (.ireturn, 1) := dk_172 (dk_at dksX0_house_2 9 rfl rfl)
theorem dX0_house_50 : decode cX0_house 50 = .ok (.aload_n 0, 1) := dk_42 (dk_at dksX0_house_2 10 rfl rfl)
theorem dX0_house_51 : decode cX0_house 51 = .ok (.invokevirtual 395, 3) := dk_182 1 139 (dk_at dksX0_house_2 11 rfl rfl)
theorem dX0_house_54 : decode cX0_house 54 = .ok (.ifCond .ne 7, 3) := dk_154 0 7 (dk_at dksX0_house_2 14 rfl rfl)
theorem dX0_house_57 : decode cX0_house 57 = .ok (.iconst 1, 1) := dk_4 (dk_at dksX0_house_2 17 rfl rfl)
theorem dX0_house_58 : decode cX0_house 58 = .ok (.goto 4, 3) := dk_167 0 4 (dk_at dksX0_house_2 18 rfl rfl)
theorem dX0_house_61 : decode cX0_house 61 = .ok (.iconst 0, 1) := dk_3 (dk_at dksX0_house_2 21 rfl rfl)
theorem dX0_house_62 : decode cX0_house 62 = .ok (.ireturn, 1) := dk_172 (dk_at dksX0_house_2 22 rfl rfl)
theorem dX0_house_63 : decode cX0_house 63 = .ok (.aload_n 0, 1) := dk_42 (dk_at dksX0_house_2 23 rfl rfl)
theorem dX0_house_64 : decode cX0_house 64 = .ok (.invokevirtual 398, 3) := dk_182 1 142 (dk_at dksX0_house_3 0 rfl rfl)
theorem dX0_house_67 : decode cX0_house 67 = .ok (.ifCond .eq 7, 3) := dk_153 0 7 (dk_at dksX0_house_3 3 rfl rfl)
theorem dX0_house_70 : decode cX0_house 70 = .ok (.iconst 1, 1) := dk_4 (dk_at dksX0_house_3 6 rfl rfl)
theorem dX0_house_71 : decode cX0_house 71 = .ok (.goto 4, 3) := dk_167 0 4 (dk_at dksX0_house_3 7 rfl rfl)
theorem dX0_house_74 : decode cX0_house 74 = .ok (.iconst 0, 1) := dk_3 (dk_at dksX0_house_3 10 rfl rfl)
theorem dX0_house_75 : decode cX0_house 75 = .ok (.ireturn, 1) := dk_172 (dk_at dksX0_house_3 11 rfl rfl)
theorem dX0_house_76 : decode cX0_house 76 = .ok (.aload_n 0, 1) := dk_42 (dk_at dksX0_house_3 12 rfl rfl)
theorem dX0_house_77 : decode cX0_house 77 = .ok (.invokevirtual 402, 3) := dk_182 1 146 (dk_at dksX0_house_3 13 rfl rfl)
theorem dX0_house_80 : decode cX0_house 80 = .ok (.ireturn, 1) := dk_172 (dk_at dksX0_house_3 16 rfl rfl)
theorem dX0_house_81 : decode cX0_house 81 = .ok (.aload_n 0, 1) := dk_42 (dk_at dksX0_house_3 17 rfl rfl)
theorem dX0_house_82 : decode cX0_house 82 = .ok (.invokevirtual 395, 3) := dk_182 1 139 (dk_at dksX0_house_3 18 rfl rfl)
theorem dX0_house_85 : decode cX0_house 85 = .ok (.ireturn, 1) := dk_172 (dk_at dksX0_house_3 21 rfl rfl)
theorem dX0_house_86 : decode cX0_house 86 = .ok (.bipush (-2), 2) := dk_16 254 (dk_at dksX0_house_3 22 rfl rfl)
theorem dX0_house_88 : decode cX0_house 88 = .ok (.ireturn, 1) := dk_172 (dk_at dksX0_house_4 0 rfl rfl)
abbrev cX0_bright : ByteArray := prog_1_method_47_code
def yX0_bright : MethodName := ⟨RX0, "bright", "()I"⟩
def dkwX0_bright_1 : List UInt8 := [172]
abbrev dktX0_bright_1 : List UInt8 := dkwX0_bright_1 ++ []
def dkwX0_bright_0 : List UInt8 := [3, 60, 3, 61, 28, 7, 162, 0, 17, 27, 42, 28, 182, 0, 122, 96, 60, 132, 2, 1, 167, 255, 240, 27]
abbrev dktX0_bright_0 : List UInt8 := dkwX0_bright_0 ++ dktX0_bright_1
theorem dksX0_bright_0 : cX0_bright.data.toList.drop 0 = dktX0_bright_0 := by decide +kernel
theorem dksX0_bright_1 : cX0_bright.data.toList.drop 24 = dktX0_bright_1 := dk_seg dksX0_bright_0 24 rfl rfl
theorem dX0_bright_0 : decode cX0_bright 0 = .ok (.iconst 0, 1) := dk_3 (dk_at dksX0_bright_0 0 rfl rfl)
theorem dX0_bright_1 : decode cX0_bright 1 = .ok (.istore_n 1, 1) := dk_60 (dk_at dksX0_bright_0 1 rfl rfl)
theorem dX0_bright_2 : decode cX0_bright 2 = .ok (.iconst 0, 1) := dk_3 (dk_at dksX0_bright_0 2 rfl rfl)
theorem dX0_bright_3 : decode cX0_bright 3 = .ok (.istore_n 2, 1) := dk_61 (dk_at dksX0_bright_0 3 rfl rfl)
theorem dX0_bright_4 : decode cX0_bright 4 = .ok (.iload_n 2, 1) := dk_28 (dk_at dksX0_bright_0 4 rfl rfl)
theorem dX0_bright_5 : decode cX0_bright 5 = .ok (.iconst 4, 1) := dk_7 (dk_at dksX0_bright_0 5 rfl rfl)
theorem dX0_bright_6 : decode cX0_bright 6 = .ok (.if_icmp .ge 17, 3) := dk_162 0 17 (dk_at dksX0_bright_0 6 rfl rfl)
theorem dX0_bright_9 : decode cX0_bright 9 = .ok (.iload_n 1, 1) := dk_27 (dk_at dksX0_bright_0 9 rfl rfl)
theorem dX0_bright_10 : decode cX0_bright 10 = .ok (.aload_n 0, 1) := dk_42 (dk_at dksX0_bright_0 10 rfl rfl)
theorem dX0_bright_11 : decode cX0_bright 11 = .ok (.iload_n 2, 1) := dk_28 (dk_at dksX0_bright_0 11 rfl rfl)
theorem dX0_bright_12 : decode cX0_bright 12 = .ok (.invokevirtual 122, 3) := dk_182 0 122 (dk_at dksX0_bright_0 12 rfl rfl)
theorem dX0_bright_15 : decode cX0_bright 15 = .ok (.iadd, 1) := dk_96 (dk_at dksX0_bright_0 15 rfl rfl)
theorem dX0_bright_16 : decode cX0_bright 16 = .ok (.istore_n 1, 1) := dk_60 (dk_at dksX0_bright_0 16 rfl rfl)
theorem dX0_bright_17 : decode cX0_bright 17 = .ok (.iinc 2 1, 3) := dk_132 2 1 (dk_at dksX0_bright_0 17 rfl rfl)
theorem dX0_bright_20 : decode cX0_bright 20 = .ok (.goto (-16), 3) := dk_167 255 240 (dk_at dksX0_bright_0 20 rfl rfl)
theorem dX0_bright_23 : decode cX0_bright 23 = .ok (.iload_n 1, 1) := dk_27 (dk_at dksX0_bright_0 23 rfl rfl)
theorem dX0_bright_24 : decode cX0_bright 24 = .ok (.ireturn, 1) := dk_172 (dk_at dksX0_bright_1 0 rfl rfl)
abbrev cX0_price : ByteArray := prog_1_method_48_code
def yX0_price : MethodName := ⟨RX0, "price", "()I"⟩
def dkwX0_price_1 : List UInt8 := [160, 0, 7, 3, 167, 0, 8, 42, 28, 182, 0, 119, 96, 60, 132, 2, 1, 167, 255, 220, 27, 172]
abbrev dktX0_price_1 : List UInt8 := dkwX0_price_1 ++ []
def dkwX0_price_0 : List UInt8 := [3, 60, 3, 61, 28, 42, 180, 0, 18, 162, 0, 34, 27, 42, 180, 0, 49, 28, 50, 180, 0, 95, 2]
abbrev dktX0_price_0 : List UInt8 := dkwX0_price_0 ++ dktX0_price_1
theorem dksX0_price_0 : cX0_price.data.toList.drop 0 = dktX0_price_0 := by decide +kernel
theorem dksX0_price_1 : cX0_price.data.toList.drop 23 = dktX0_price_1 := dk_seg dksX0_price_0 23 rfl rfl
theorem dX0_price_0 : decode cX0_price 0 = .ok (.iconst 0, 1) := dk_3 (dk_at dksX0_price_0 0 rfl rfl)
theorem dX0_price_1 : decode cX0_price 1 = .ok (.istore_n 1, 1) := dk_60 (dk_at dksX0_price_0 1 rfl rfl)
theorem dX0_price_2 : decode cX0_price 2 = .ok (.iconst 0, 1) := dk_3 (dk_at dksX0_price_0 2 rfl rfl)
theorem dX0_price_3 : decode cX0_price 3 = .ok (.istore_n 2, 1) := dk_61 (dk_at dksX0_price_0 3 rfl rfl)
theorem dX0_price_4 : decode cX0_price 4 = .ok (.iload_n 2, 1) := dk_28 (dk_at dksX0_price_0 4 rfl rfl)
theorem dX0_price_5 : decode cX0_price 5 = .ok (.aload_n 0, 1) := dk_42 (dk_at dksX0_price_0 5 rfl rfl)
theorem dX0_price_6 : decode cX0_price 6 = .ok (.getfield 18, 3) := dk_180 0 18 (dk_at dksX0_price_0 6 rfl rfl)
theorem dX0_price_9 : decode cX0_price 9 = .ok (.if_icmp .ge 34, 3) := dk_162 0 34 (dk_at dksX0_price_0 9 rfl rfl)
theorem dX0_price_12 : decode cX0_price 12 = .ok (.iload_n 1, 1) := dk_27 (dk_at dksX0_price_0 12 rfl rfl)
theorem dX0_price_13 : decode cX0_price 13 = .ok (.aload_n 0, 1) := dk_42 (dk_at dksX0_price_0 13 rfl rfl)
theorem dX0_price_14 : decode cX0_price 14 = .ok (.getfield 49, 3) := dk_180 0 49 (dk_at dksX0_price_0 14 rfl rfl)
theorem dX0_price_17 : decode cX0_price 17 = .ok (.iload_n 2, 1) := dk_28 (dk_at dksX0_price_0 17 rfl rfl)
theorem dX0_price_18 : decode cX0_price 18 = .ok (.aaload, 1) := dk_50 (dk_at dksX0_price_0 18 rfl rfl)
theorem dX0_price_19 : decode cX0_price 19 = .ok (.getfield 95, 3) := dk_180 0 95 (dk_at dksX0_price_0 19 rfl rfl)
theorem dX0_price_22 : decode cX0_price 22 = .ok (.iconst (-1), 1) := dk_2 (dk_at dksX0_price_0 22 rfl rfl)
theorem dX0_price_23 : decode cX0_price 23 = .ok (.if_icmp .ne 7, 3) := dk_160 0 7 (dk_at dksX0_price_1 0 rfl rfl)
theorem dX0_price_26 : decode cX0_price 26 = .ok (.iconst 0, 1) := dk_3 (dk_at dksX0_price_1 3 rfl rfl)
theorem dX0_price_27 : decode cX0_price 27 = .ok (.goto 8, 3) := dk_167 0 8 (dk_at dksX0_price_1 4 rfl rfl)
theorem dX0_price_30 : decode cX0_price 30 = .ok (.aload_n 0, 1) := dk_42 (dk_at dksX0_price_1 7 rfl rfl)
theorem dX0_price_31 : decode cX0_price 31 = .ok (.iload_n 2, 1) := dk_28 (dk_at dksX0_price_1 8 rfl rfl)
theorem dX0_price_32 : decode cX0_price 32 = .ok (.invokevirtual 119, 3) := dk_182 0 119 (dk_at dksX0_price_1 9 rfl rfl)
theorem dX0_price_35 : decode cX0_price 35 = .ok (.iadd, 1) := dk_96 (dk_at dksX0_price_1 12 rfl rfl)
theorem dX0_price_36 : decode cX0_price 36 = .ok (.istore_n 1, 1) := dk_60 (dk_at dksX0_price_1 13 rfl rfl)
theorem dX0_price_37 : decode cX0_price 37 = .ok (.iinc 2 1, 3) := dk_132 2 1 (dk_at dksX0_price_1 14 rfl rfl)
theorem dX0_price_40 : decode cX0_price 40 = .ok (.goto (-36), 3) := dk_167 255 220 (dk_at dksX0_price_1 17 rfl rfl)
theorem dX0_price_43 : decode cX0_price 43 = .ok (.iload_n 1, 1) := dk_27 (dk_at dksX0_price_1 20 rfl rfl)
theorem dX0_price_44 : decode cX0_price 44 = .ok (.ireturn, 1) := dk_172 (dk_at dksX0_price_1 21 rfl rfl)
abbrev cX0_quarrelSet : ByteArray := prog_1_method_49_code
def yX0_quarrelSet : MethodName := ⟨RX0, "quarrelSet", "()I"⟩
def dkwX0_quarrelSet_2 : List UInt8 := [153, 0, 9, 4, 28, 120, 167, 0, 4, 3, 128, 60, 132, 2, 1, 167, 255, 199, 27, 172]
abbrev dktX0_quarrelSet_2 : List UInt8 := dkwX0_quarrelSet_2 ++ []
def dkwX0_quarrelSet_1 : List UInt8 := [54, 4, 27, 29, 2, 159, 0, 26, 21, 4, 2, 159, 0, 20, 42, 29, 21, 4, 28, 182, 1, 130]
abbrev dktX0_quarrelSet_1 : List UInt8 := dkwX0_quarrelSet_1 ++ dktX0_quarrelSet_2
def dkwX0_quarrelSet_0 : List UInt8 := [3, 60, 3, 61, 28, 4, 96, 7, 162, 0, 56, 42, 28, 182, 0, 102, 62, 42, 28, 4, 96, 182, 0, 102]
abbrev dktX0_quarrelSet_0 : List UInt8 := dkwX0_quarrelSet_0 ++ dktX0_quarrelSet_1
theorem dksX0_quarrelSet_0 : cX0_quarrelSet.data.toList.drop 0 = dktX0_quarrelSet_0 := by decide +kernel
theorem dksX0_quarrelSet_1 : cX0_quarrelSet.data.toList.drop 24 = dktX0_quarrelSet_1 := dk_seg dksX0_quarrelSet_0 24 rfl rfl
theorem dksX0_quarrelSet_2 : cX0_quarrelSet.data.toList.drop 46 = dktX0_quarrelSet_2 := dk_seg dksX0_quarrelSet_1 22 rfl rfl
theorem dX0_quarrelSet_0 : decode cX0_quarrelSet 0 = .ok (.iconst 0, 1) := dk_3 (dk_at dksX0_quarrelSet_0 0 rfl rfl)
theorem dX0_quarrelSet_1 : decode cX0_quarrelSet 1 = .ok (.istore_n 1, 1) := dk_60 (dk_at dksX0_quarrelSet_0 1 rfl rfl)
theorem dX0_quarrelSet_2 : decode cX0_quarrelSet 2 = .ok (.iconst 0, 1) := dk_3 (dk_at dksX0_quarrelSet_0 2 rfl rfl)
theorem dX0_quarrelSet_3 : decode cX0_quarrelSet 3 = .ok (.istore_n 2, 1) := dk_61 (dk_at dksX0_quarrelSet_0 3 rfl rfl)
theorem dX0_quarrelSet_4 : decode cX0_quarrelSet 4 = .ok (.iload_n 2, 1) := dk_28 (dk_at dksX0_quarrelSet_0 4 rfl rfl)
theorem dX0_quarrelSet_5 : decode cX0_quarrelSet 5 = .ok (.iconst 1, 1) := dk_4 (dk_at dksX0_quarrelSet_0 5 rfl rfl)
theorem dX0_quarrelSet_6 : decode cX0_quarrelSet 6 = .ok (.iadd, 1) := dk_96 (dk_at dksX0_quarrelSet_0 6 rfl rfl)
theorem dX0_quarrelSet_7 : decode cX0_quarrelSet 7 = .ok (.iconst 4, 1) := dk_7 (dk_at dksX0_quarrelSet_0 7 rfl rfl)
theorem dX0_quarrelSet_8 : decode cX0_quarrelSet 8 = .ok (.if_icmp .ge 56, 3) := dk_162 0 56 (dk_at dksX0_quarrelSet_0 8 rfl rfl)
theorem dX0_quarrelSet_11 : decode cX0_quarrelSet 11 = .ok (.aload_n 0, 1) := dk_42 (dk_at dksX0_quarrelSet_0 11 rfl rfl)
theorem dX0_quarrelSet_12 : decode cX0_quarrelSet 12 = .ok (.iload_n 2, 1) := dk_28 (dk_at dksX0_quarrelSet_0 12 rfl rfl)
theorem dX0_quarrelSet_13 : decode cX0_quarrelSet 13 = .ok (.invokevirtual 102, 3) := dk_182 0 102 (dk_at dksX0_quarrelSet_0 13 rfl rfl)
theorem dX0_quarrelSet_16 : decode cX0_quarrelSet 16 = .ok (.istore_n 3, 1) := dk_62 (dk_at dksX0_quarrelSet_0 16 rfl rfl)
theorem dX0_quarrelSet_17 : decode cX0_quarrelSet 17 = .ok (.aload_n 0, 1) := dk_42 (dk_at dksX0_quarrelSet_0 17 rfl rfl)
theorem dX0_quarrelSet_18 : decode cX0_quarrelSet 18 = .ok (.iload_n 2, 1) := dk_28 (dk_at dksX0_quarrelSet_0 18 rfl rfl)
theorem dX0_quarrelSet_19 : decode cX0_quarrelSet 19 = .ok (.iconst 1, 1) := dk_4 (dk_at dksX0_quarrelSet_0 19 rfl rfl)
theorem dX0_quarrelSet_20 : decode cX0_quarrelSet 20 = .ok (.iadd, 1) := dk_96 (dk_at dksX0_quarrelSet_0 20 rfl rfl)
theorem dX0_quarrelSet_21 : decode cX0_quarrelSet 21 = .ok (.invokevirtual 102, 3) := dk_182 0 102 (dk_at dksX0_quarrelSet_0 21 rfl rfl)
theorem dX0_quarrelSet_24 : decode cX0_quarrelSet 24 = .ok (.istore 4, 2) := dk_54 4 (dk_at dksX0_quarrelSet_1 0 rfl rfl)
theorem dX0_quarrelSet_26 : decode cX0_quarrelSet 26 = .ok (.iload_n 1, 1) := dk_27 (dk_at dksX0_quarrelSet_1 2 rfl rfl)
theorem dX0_quarrelSet_27 : decode cX0_quarrelSet 27 = .ok (.iload_n 3, 1) := dk_29 (dk_at dksX0_quarrelSet_1 3 rfl rfl)
theorem dX0_quarrelSet_28 : decode cX0_quarrelSet 28 = .ok (.iconst (-1), 1) := dk_2 (dk_at dksX0_quarrelSet_1 4 rfl rfl)
theorem dX0_quarrelSet_29 : decode cX0_quarrelSet 29 = .ok (.if_icmp .eq 26, 3) := dk_159 0 26 (dk_at dksX0_quarrelSet_1 5 rfl rfl)
theorem dX0_quarrelSet_32 : decode cX0_quarrelSet 32 = .ok (.iload 4, 2) := dk_21 4 (dk_at dksX0_quarrelSet_1 8 rfl rfl)
theorem dX0_quarrelSet_34 : decode cX0_quarrelSet 34 = .ok (.iconst (-1), 1) := dk_2 (dk_at dksX0_quarrelSet_1 10 rfl rfl)
theorem dX0_quarrelSet_35 : decode cX0_quarrelSet 35 = .ok (.if_icmp .eq 20, 3) := dk_159 0 20 (dk_at dksX0_quarrelSet_1 11 rfl rfl)
theorem dX0_quarrelSet_38 : decode cX0_quarrelSet 38 = .ok (.aload_n 0, 1) := dk_42 (dk_at dksX0_quarrelSet_1 14 rfl rfl)
theorem dX0_quarrelSet_39 : decode cX0_quarrelSet 39 = .ok (.iload_n 3, 1) := dk_29 (dk_at dksX0_quarrelSet_1 15 rfl rfl)
theorem dX0_quarrelSet_40 : decode cX0_quarrelSet 40 = .ok (.iload 4, 2) := dk_21 4 (dk_at dksX0_quarrelSet_1 16 rfl rfl)
theorem dX0_quarrelSet_42 : decode cX0_quarrelSet 42 = .ok (.iload_n 2, 1) := dk_28 (dk_at dksX0_quarrelSet_1 18 rfl rfl)
theorem dX0_quarrelSet_43 : decode cX0_quarrelSet 43 = .ok (.invokevirtual 386, 3) := dk_182 1 130 (dk_at dksX0_quarrelSet_1 19 rfl rfl)
theorem dX0_quarrelSet_46 : decode cX0_quarrelSet 46 = .ok (.ifCond .eq 9, 3) := dk_153 0 9 (dk_at dksX0_quarrelSet_2 0 rfl rfl)
theorem dX0_quarrelSet_49 : decode cX0_quarrelSet 49 = .ok (.iconst 1, 1) := dk_4 (dk_at dksX0_quarrelSet_2 3 rfl rfl)
theorem dX0_quarrelSet_50 : decode cX0_quarrelSet 50 = .ok (.iload_n 2, 1) := dk_28 (dk_at dksX0_quarrelSet_2 4 rfl rfl)
theorem dX0_quarrelSet_51 : decode cX0_quarrelSet 51 = .ok (.ishl, 1) := dk_120 (dk_at dksX0_quarrelSet_2 5 rfl rfl)
theorem dX0_quarrelSet_52 : decode cX0_quarrelSet 52 = .ok (.goto 4, 3) := dk_167 0 4 (dk_at dksX0_quarrelSet_2 6 rfl rfl)
theorem dX0_quarrelSet_55 : decode cX0_quarrelSet 55 = .ok (.iconst 0, 1) := dk_3 (dk_at dksX0_quarrelSet_2 9 rfl rfl)
theorem dX0_quarrelSet_56 : decode cX0_quarrelSet 56 = .ok (.ior, 1) := dk_128 (dk_at dksX0_quarrelSet_2 10 rfl rfl)
theorem dX0_quarrelSet_57 : decode cX0_quarrelSet 57 = .ok (.istore_n 1, 1) := dk_60 (dk_at dksX0_quarrelSet_2 11 rfl rfl)
theorem dX0_quarrelSet_58 : decode cX0_quarrelSet 58 = .ok (.iinc 2 1, 3) := dk_132 2 1 (dk_at dksX0_quarrelSet_2 12 rfl rfl)
theorem dX0_quarrelSet_61 : decode cX0_quarrelSet 61 = .ok (.goto (-57), 3) := dk_167 255 199 (dk_at dksX0_quarrelSet_2 15 rfl rfl)
theorem dX0_quarrelSet_64 : decode cX0_quarrelSet 64 = .ok (.iload_n 1, 1) := dk_27 (dk_at dksX0_quarrelSet_2 18 rfl rfl)
theorem dX0_quarrelSet_65 : decode cX0_quarrelSet 65 = .ok (.ireturn, 1) := dk_172 (dk_at dksX0_quarrelSet_2 19 rfl rfl)
abbrev cX0_doQuarrel : ByteArray := prog_1_method_43_code
def yX0_doQuarrel : MethodName := ⟨RX0, "doQuarrel", "(III)Z"⟩
def dkwX0_doQuarrel_2 : List UInt8 := [180, 0, 78, 100, 184, 0, 106, 182, 1, 107, 153, 0, 7, 4, 167, 0, 4, 3, 172]
abbrev dktX0_doQuarrel_2 : List UInt8 := dkwX0_doQuarrel_2 ++ []
def dkwX0_doQuarrel_1 : List UInt8 := [3, 172, 42, 5, 27, 7, 29, 42, 180, 0, 49, 27, 50, 180, 0, 78, 42, 180, 0, 49, 28, 50]
abbrev dktX0_doQuarrel_1 : List UInt8 := dkwX0_doQuarrel_1 ++ dktX0_doQuarrel_2
def dkwX0_doQuarrel_0 : List UInt8 := [42, 180, 0, 49, 27, 50, 180, 0, 98, 154, 0, 15, 42, 180, 0, 49, 28, 50, 180, 0, 98, 153, 0, 5]
abbrev dktX0_doQuarrel_0 : List UInt8 := dkwX0_doQuarrel_0 ++ dktX0_doQuarrel_1
theorem dksX0_doQuarrel_0 : cX0_doQuarrel.data.toList.drop 0 = dktX0_doQuarrel_0 := by decide +kernel
theorem dksX0_doQuarrel_1 : cX0_doQuarrel.data.toList.drop 24 = dktX0_doQuarrel_1 := dk_seg dksX0_doQuarrel_0 24 rfl rfl
theorem dksX0_doQuarrel_2 : cX0_doQuarrel.data.toList.drop 46 = dktX0_doQuarrel_2 := dk_seg dksX0_doQuarrel_1 22 rfl rfl
theorem dX0_doQuarrel_0 : decode cX0_doQuarrel 0 = .ok (.aload_n 0, 1) := dk_42 (dk_at dksX0_doQuarrel_0 0 rfl rfl)
theorem dX0_doQuarrel_1 : decode cX0_doQuarrel 1 = .ok (.getfield 49, 3) := dk_180 0 49 (dk_at dksX0_doQuarrel_0 1 rfl rfl)
theorem dX0_doQuarrel_4 : decode cX0_doQuarrel 4 = .ok (.iload_n 1, 1) := dk_27 (dk_at dksX0_doQuarrel_0 4 rfl rfl)
theorem dX0_doQuarrel_5 : decode cX0_doQuarrel 5 = .ok (.aaload, 1) := dk_50 (dk_at dksX0_doQuarrel_0 5 rfl rfl)
theorem dX0_doQuarrel_6 : decode cX0_doQuarrel 6 = .ok (.getfield 98, 3) := dk_180 0 98 (dk_at dksX0_doQuarrel_0 6 rfl rfl)
theorem dX0_doQuarrel_9 : decode cX0_doQuarrel 9 = .ok (.ifCond .ne 15, 3) := dk_154 0 15 (dk_at dksX0_doQuarrel_0 9 rfl rfl)
theorem dX0_doQuarrel_12 : decode cX0_doQuarrel 12 = .ok (.aload_n 0, 1) := dk_42 (dk_at dksX0_doQuarrel_0 12 rfl rfl)
theorem dX0_doQuarrel_13 : decode cX0_doQuarrel 13 = .ok (.getfield 49, 3) := dk_180 0 49 (dk_at dksX0_doQuarrel_0 13 rfl rfl)
theorem dX0_doQuarrel_16 : decode cX0_doQuarrel 16 = .ok (.iload_n 2, 1) := dk_28 (dk_at dksX0_doQuarrel_0 16 rfl rfl)
theorem dX0_doQuarrel_17 : decode cX0_doQuarrel 17 = .ok (.aaload, 1) := dk_50 (dk_at dksX0_doQuarrel_0 17 rfl rfl)
theorem dX0_doQuarrel_18 : decode cX0_doQuarrel 18 = .ok (.getfield 98, 3) := dk_180 0 98 (dk_at dksX0_doQuarrel_0 18 rfl rfl)
theorem dX0_doQuarrel_21 : decode cX0_doQuarrel 21 = .ok (.ifCond .eq 5, 3) := dk_153 0 5 (dk_at dksX0_doQuarrel_0 21 rfl rfl)
theorem dX0_doQuarrel_24 : decode cX0_doQuarrel 24 = .ok (.iconst 0, 1) := dk_3 (dk_at dksX0_doQuarrel_1 0 rfl rfl)
theorem dX0_doQuarrel_25 : decode cX0_doQuarrel 25 = .ok (.ireturn, 1) := dk_172 (dk_at dksX0_doQuarrel_1 1 rfl rfl)
theorem dX0_doQuarrel_26 : decode cX0_doQuarrel 26 = .ok (.aload_n 0, 1) := dk_42 (dk_at dksX0_doQuarrel_1 2 rfl rfl)
theorem dX0_doQuarrel_27 : decode cX0_doQuarrel 27 = .ok (.iconst 2, 1) := dk_5 (dk_at dksX0_doQuarrel_1 3 rfl rfl)
theorem dX0_doQuarrel_28 : decode cX0_doQuarrel 28 = .ok (.iload_n 1, 1) := dk_27 (dk_at dksX0_doQuarrel_1 4 rfl rfl)
theorem dX0_doQuarrel_29 : decode cX0_doQuarrel 29 = .ok (.iconst 4, 1) := dk_7 (dk_at dksX0_doQuarrel_1 5 rfl rfl)
theorem dX0_doQuarrel_30 : decode cX0_doQuarrel 30 = .ok (.iload_n 3, 1) := dk_29 (dk_at dksX0_doQuarrel_1 6 rfl rfl)
theorem dX0_doQuarrel_31 : decode cX0_doQuarrel 31 = .ok (.aload_n 0, 1) := dk_42 (dk_at dksX0_doQuarrel_1 7 rfl rfl)
theorem dX0_doQuarrel_32 : decode cX0_doQuarrel 32 = .ok (.getfield 49, 3) := dk_180 0 49 (dk_at dksX0_doQuarrel_1 8 rfl rfl)
theorem dX0_doQuarrel_35 : decode cX0_doQuarrel 35 = .ok (.iload_n 1, 1) := dk_27 (dk_at dksX0_doQuarrel_1 11 rfl rfl)
theorem dX0_doQuarrel_36 : decode cX0_doQuarrel 36 = .ok (.aaload, 1) := dk_50 (dk_at dksX0_doQuarrel_1 12 rfl rfl)
theorem dX0_doQuarrel_37 : decode cX0_doQuarrel 37 = .ok (.getfield 78, 3) := dk_180 0 78 (dk_at dksX0_doQuarrel_1 13 rfl rfl)
theorem dX0_doQuarrel_40 : decode cX0_doQuarrel 40 = .ok (.aload_n 0, 1) := dk_42 (dk_at dksX0_doQuarrel_1 16 rfl rfl)
theorem dX0_doQuarrel_41 : decode cX0_doQuarrel 41 = .ok (.getfield 49, 3) := dk_180 0 49 (dk_at dksX0_doQuarrel_1 17 rfl rfl)
theorem dX0_doQuarrel_44 : decode cX0_doQuarrel 44 = .ok (.iload_n 2, 1) := dk_28 (dk_at dksX0_doQuarrel_1 20 rfl rfl)
theorem dX0_doQuarrel_45 : decode cX0_doQuarrel 45 = .ok (.aaload, 1) := dk_50 (dk_at dksX0_doQuarrel_1 21 rfl rfl)
theorem dX0_doQuarrel_46 : decode cX0_doQuarrel 46 = .ok (.getfield 78, 3) := dk_180 0 78 (dk_at dksX0_doQuarrel_2 0 rfl rfl)
theorem dX0_doQuarrel_49 : decode cX0_doQuarrel 49 = .ok (.isub, 1) := dk_100 (dk_at dksX0_doQuarrel_2 3 rfl rfl)
theorem dX0_doQuarrel_50 : decode cX0_doQuarrel 50 = .ok (.invokestatic 106, 3) := dk_184 0 106 (dk_at dksX0_doQuarrel_2 4 rfl rfl)
theorem dX0_doQuarrel_53 : decode cX0_doQuarrel 53 = .ok (.invokevirtual 363, 3) := dk_182 1 107 (dk_at dksX0_doQuarrel_2 7 rfl rfl)
theorem dX0_doQuarrel_56 : decode cX0_doQuarrel 56 = .ok (.ifCond .eq 7, 3) := dk_153 0 7 (dk_at dksX0_doQuarrel_2 10 rfl rfl)
theorem dX0_doQuarrel_59 : decode cX0_doQuarrel 59 = .ok (.iconst 1, 1) := dk_4 (dk_at dksX0_doQuarrel_2 13 rfl rfl)
theorem dX0_doQuarrel_60 : decode cX0_doQuarrel 60 = .ok (.goto 4, 3) := dk_167 0 4 (dk_at dksX0_doQuarrel_2 14 rfl rfl)
theorem dX0_doQuarrel_63 : decode cX0_doQuarrel 63 = .ok (.iconst 0, 1) := dk_3 (dk_at dksX0_doQuarrel_2 17 rfl rfl)
theorem dX0_doQuarrel_64 : decode cX0_doQuarrel 64 = .ok (.ireturn, 1) := dk_172 (dk_at dksX0_doQuarrel_2 18 rfl rfl)
abbrev cX0_isMet : ByteArray := prog_1_method_50_code
def yX0_isMet : MethodName := ⟨RX0, "isMet", "()Z"⟩
def dkwX0_isMet_1 : List UInt8 := [132, 1, 1, 167, 255, 232, 4, 172]
abbrev dktX0_isMet_1 : List UInt8 := dkwX0_isMet_1 ++ []
def dkwX0_isMet_0 : List UInt8 := [3, 60, 27, 7, 162, 0, 25, 42, 27, 182, 0, 122, 42, 180, 0, 71, 27, 46, 162, 0, 5, 3, 172]
abbrev dktX0_isMet_0 : List UInt8 := dkwX0_isMet_0 ++ dktX0_isMet_1
theorem dksX0_isMet_0 : cX0_isMet.data.toList.drop 0 = dktX0_isMet_0 := by decide +kernel
theorem dksX0_isMet_1 : cX0_isMet.data.toList.drop 23 = dktX0_isMet_1 := dk_seg dksX0_isMet_0 23 rfl rfl
theorem dX0_isMet_0 : decode cX0_isMet 0 = .ok (.iconst 0, 1) := dk_3 (dk_at dksX0_isMet_0 0 rfl rfl)
theorem dX0_isMet_1 : decode cX0_isMet 1 = .ok (.istore_n 1, 1) := dk_60 (dk_at dksX0_isMet_0 1 rfl rfl)
theorem dX0_isMet_2 : decode cX0_isMet 2 = .ok (.iload_n 1, 1) := dk_27 (dk_at dksX0_isMet_0 2 rfl rfl)
theorem dX0_isMet_3 : decode cX0_isMet 3 = .ok (.iconst 4, 1) := dk_7 (dk_at dksX0_isMet_0 3 rfl rfl)
theorem dX0_isMet_4 : decode cX0_isMet 4 = .ok (.if_icmp .ge 25, 3) := dk_162 0 25 (dk_at dksX0_isMet_0 4 rfl rfl)
theorem dX0_isMet_7 : decode cX0_isMet 7 = .ok (.aload_n 0, 1) := dk_42 (dk_at dksX0_isMet_0 7 rfl rfl)
theorem dX0_isMet_8 : decode cX0_isMet 8 = .ok (.iload_n 1, 1) := dk_27 (dk_at dksX0_isMet_0 8 rfl rfl)
theorem dX0_isMet_9 : decode cX0_isMet 9 = .ok (.invokevirtual 122, 3) := dk_182 0 122 (dk_at dksX0_isMet_0 9 rfl rfl)
theorem dX0_isMet_12 : decode cX0_isMet 12 = .ok (.aload_n 0, 1) := dk_42 (dk_at dksX0_isMet_0 12 rfl rfl)
theorem dX0_isMet_13 : decode cX0_isMet 13 = .ok (.getfield 71, 3) := dk_180 0 71 (dk_at dksX0_isMet_0 13 rfl rfl)
theorem dX0_isMet_16 : decode cX0_isMet 16 = .ok (.iload_n 1, 1) := dk_27 (dk_at dksX0_isMet_0 16 rfl rfl)
theorem dX0_isMet_17 : decode cX0_isMet 17 = .ok (.iaload, 1) := dk_46 (dk_at dksX0_isMet_0 17 rfl rfl)
theorem dX0_isMet_18 : decode cX0_isMet 18 = .ok (.if_icmp .ge 5, 3) := dk_162 0 5 (dk_at dksX0_isMet_0 18 rfl rfl)
theorem dX0_isMet_21 : decode cX0_isMet 21 = .ok (.iconst 0, 1) := dk_3 (dk_at dksX0_isMet_0 21 rfl rfl)
theorem dX0_isMet_22 : decode cX0_isMet 22 = .ok (.ireturn, 1) := dk_172 (dk_at dksX0_isMet_0 22 rfl rfl)
theorem dX0_isMet_23 : decode cX0_isMet 23 = .ok (.iinc 1 1, 3) := dk_132 1 1 (dk_at dksX0_isMet_1 0 rfl rfl)
theorem dX0_isMet_26 : decode cX0_isMet 26 = .ok (.goto (-24), 3) := dk_167 255 232 (dk_at dksX0_isMet_1 3 rfl rfl)
theorem dX0_isMet_29 : decode cX0_isMet 29 = .ok (.iconst 1, 1) := dk_4 (dk_at dksX0_isMet_1 6 rfl rfl)
theorem dX0_isMet_30 : decode cX0_isMet 30 = .ok (.ireturn, 1) := dk_172 (dk_at dksX0_isMet_1 7 rfl rfl)
abbrev cX0_spiltAll : ByteArray := prog_1_method_51_code
def yX0_spiltAll : MethodName := ⟨RX0, "spiltAll", "()I"⟩
def dkwX0_spiltAll_2 : List UInt8 := [128, 60, 132, 2, 1, 167, 255, 208, 27, 172]
abbrev dktX0_spiltAll_2 : List UInt8 := dkwX0_spiltAll_2 ++ []
def dkwX0_spiltAll_1 : List UInt8 := [159, 0, 23, 42, 180, 0, 49, 28, 50, 180, 0, 98, 153, 0, 11, 42, 28, 182, 0, 113, 167, 0, 4, 3]
abbrev dktX0_spiltAll_1 : List UInt8 := dkwX0_spiltAll_1 ++ dktX0_spiltAll_2
def dkwX0_spiltAll_0 : List UInt8 := [3, 60, 3, 61, 28, 42, 180, 0, 18, 162, 0, 46, 27, 42, 180, 0, 49, 28, 50, 180, 0, 95, 2]
abbrev dktX0_spiltAll_0 : List UInt8 := dkwX0_spiltAll_0 ++ dktX0_spiltAll_1
theorem dksX0_spiltAll_0 : cX0_spiltAll.data.toList.drop 0 = dktX0_spiltAll_0 := by decide +kernel
theorem dksX0_spiltAll_1 : cX0_spiltAll.data.toList.drop 23 = dktX0_spiltAll_1 := dk_seg dksX0_spiltAll_0 23 rfl rfl
theorem dksX0_spiltAll_2 : cX0_spiltAll.data.toList.drop 47 = dktX0_spiltAll_2 := dk_seg dksX0_spiltAll_1 24 rfl rfl
theorem dX0_spiltAll_0 : decode cX0_spiltAll 0 = .ok (.iconst 0, 1) := dk_3 (dk_at dksX0_spiltAll_0 0 rfl rfl)
theorem dX0_spiltAll_1 : decode cX0_spiltAll 1 = .ok (.istore_n 1, 1) := dk_60 (dk_at dksX0_spiltAll_0 1 rfl rfl)
theorem dX0_spiltAll_2 : decode cX0_spiltAll 2 = .ok (.iconst 0, 1) := dk_3 (dk_at dksX0_spiltAll_0 2 rfl rfl)
theorem dX0_spiltAll_3 : decode cX0_spiltAll 3 = .ok (.istore_n 2, 1) := dk_61 (dk_at dksX0_spiltAll_0 3 rfl rfl)
theorem dX0_spiltAll_4 : decode cX0_spiltAll 4 = .ok (.iload_n 2, 1) := dk_28 (dk_at dksX0_spiltAll_0 4 rfl rfl)
theorem dX0_spiltAll_5 : decode cX0_spiltAll 5 = .ok (.aload_n 0, 1) := dk_42 (dk_at dksX0_spiltAll_0 5 rfl rfl)
theorem dX0_spiltAll_6 : decode cX0_spiltAll 6 = .ok (.getfield 18, 3) := dk_180 0 18 (dk_at dksX0_spiltAll_0 6 rfl rfl)
theorem dX0_spiltAll_9 : decode cX0_spiltAll 9 = .ok (.if_icmp .ge 46, 3) := dk_162 0 46 (dk_at dksX0_spiltAll_0 9 rfl rfl)
theorem dX0_spiltAll_12 : decode cX0_spiltAll 12 = .ok (.iload_n 1, 1) := dk_27 (dk_at dksX0_spiltAll_0 12 rfl rfl)
theorem dX0_spiltAll_13 : decode cX0_spiltAll 13 = .ok (.aload_n 0, 1) := dk_42 (dk_at dksX0_spiltAll_0 13 rfl rfl)
theorem dX0_spiltAll_14 : decode cX0_spiltAll 14 = .ok (.getfield 49, 3) := dk_180 0 49 (dk_at dksX0_spiltAll_0 14 rfl rfl)
theorem dX0_spiltAll_17 : decode cX0_spiltAll 17 = .ok (.iload_n 2, 1) := dk_28 (dk_at dksX0_spiltAll_0 17 rfl rfl)
theorem dX0_spiltAll_18 : decode cX0_spiltAll 18 = .ok (.aaload, 1) := dk_50 (dk_at dksX0_spiltAll_0 18 rfl rfl)
theorem dX0_spiltAll_19 : decode cX0_spiltAll 19 = .ok (.getfield 95, 3) := dk_180 0 95 (dk_at dksX0_spiltAll_0 19 rfl rfl)
theorem dX0_spiltAll_22 : decode cX0_spiltAll 22 = .ok (.iconst (-1), 1) := dk_2 (dk_at dksX0_spiltAll_0 22 rfl rfl)
theorem dX0_spiltAll_23 : decode cX0_spiltAll 23 = .ok (.if_icmp .eq 23, 3) := dk_159 0 23 (dk_at dksX0_spiltAll_1 0 rfl rfl)
theorem dX0_spiltAll_26 : decode cX0_spiltAll 26 = .ok (.aload_n 0, 1) := dk_42 (dk_at dksX0_spiltAll_1 3 rfl rfl)
theorem dX0_spiltAll_27 : decode cX0_spiltAll 27 = .ok (.getfield 49, 3) := dk_180 0 49 (dk_at dksX0_spiltAll_1 4 rfl rfl)
theorem dX0_spiltAll_30 : decode cX0_spiltAll 30 = .ok (.iload_n 2, 1) := dk_28 (dk_at dksX0_spiltAll_1 7 rfl rfl)
theorem dX0_spiltAll_31 : decode cX0_spiltAll 31 = .ok (.aaload, 1) := dk_50 (dk_at dksX0_spiltAll_1 8 rfl rfl)
theorem dX0_spiltAll_32 : decode cX0_spiltAll 32 = .ok (.getfield 98, 3) := dk_180 0 98 (dk_at dksX0_spiltAll_1 9 rfl rfl)
theorem dX0_spiltAll_35 : decode cX0_spiltAll 35 = .ok (.ifCond .eq 11, 3) := dk_153 0 11 (dk_at dksX0_spiltAll_1 12 rfl rfl)
theorem dX0_spiltAll_38 : decode cX0_spiltAll 38 = .ok (.aload_n 0, 1) := dk_42 (dk_at dksX0_spiltAll_1 15 rfl rfl)
theorem dX0_spiltAll_39 : decode cX0_spiltAll 39 = .ok (.iload_n 2, 1) := dk_28 (dk_at dksX0_spiltAll_1 16 rfl rfl)
theorem dX0_spiltAll_40 : decode cX0_spiltAll 40 = .ok (.invokevirtual 113, 3) := dk_182 0 113 (dk_at dksX0_spiltAll_1 17 rfl rfl)
theorem dX0_spiltAll_43 : decode cX0_spiltAll 43 = .ok (.goto 4, 3) := dk_167 0 4 (dk_at dksX0_spiltAll_1 20 rfl rfl)
theorem dX0_spiltAll_46 : decode cX0_spiltAll 46 = .ok (.iconst 0, 1) := dk_3 (dk_at dksX0_spiltAll_1 23 rfl rfl)
theorem dX0_spiltAll_47 : decode cX0_spiltAll 47 = .ok (.ior, 1) := dk_128 (dk_at dksX0_spiltAll_2 0 rfl rfl)
theorem dX0_spiltAll_48 : decode cX0_spiltAll 48 = .ok (.istore_n 1, 1) := dk_60 (dk_at dksX0_spiltAll_2 1 rfl rfl)
theorem dX0_spiltAll_49 : decode cX0_spiltAll 49 = .ok (.iinc 2 1, 3) := dk_132 2 1 (dk_at dksX0_spiltAll_2 2 rfl rfl)
theorem dX0_spiltAll_52 : decode cX0_spiltAll 52 = .ok (.goto (-48), 3) := dk_167 255 208 (dk_at dksX0_spiltAll_2 5 rfl rfl)
theorem dX0_spiltAll_55 : decode cX0_spiltAll 55 = .ok (.iload_n 1, 1) := dk_27 (dk_at dksX0_spiltAll_2 8 rfl rfl)
theorem dX0_spiltAll_56 : decode cX0_spiltAll 56 = .ok (.ireturn, 1) := dk_172 (dk_at dksX0_spiltAll_2 9 rfl rfl)
abbrev cX0_half : ByteArray := prog_1_method_53_code
def yX0_half : MethodName := ⟨RX0, "half", "(I)I"⟩
def dkwX0_half_3 : List UInt8 := [172]
abbrev dktX0_half_3 : List UInt8 := dkwX0_half_3 ++ []
def dkwX0_half_2 : List UInt8 := [182, 1, 123, 96, 54, 4, 5, 21, 4, 104, 28, 161, 0, 6, 21, 5, 172, 132, 5, 1, 167, 255, 218, 2]
abbrev dktX0_half_2 : List UInt8 := dkwX0_half_2 ++ dktX0_half_3
def dkwX0_half_1 : List UInt8 := [54, 4, 3, 54, 5, 21, 5, 16, 8, 162, 0, 37, 28, 158, 0, 33, 21, 4, 42, 29, 27, 21, 5]
abbrev dktX0_half_1 : List UInt8 := dkwX0_half_1 ++ dktX0_half_2
def dkwX0_half_0 : List UInt8 := [27, 184, 0, 59, 154, 0, 6, 16, 254, 172, 42, 27, 182, 0, 122, 61, 42, 27, 182, 0, 102, 62, 3]
abbrev dktX0_half_0 : List UInt8 := dkwX0_half_0 ++ dktX0_half_1
theorem dksX0_half_0 : cX0_half.data.toList.drop 0 = dktX0_half_0 := by decide +kernel
theorem dksX0_half_1 : cX0_half.data.toList.drop 23 = dktX0_half_1 := dk_seg dksX0_half_0 23 rfl rfl
theorem dksX0_half_2 : cX0_half.data.toList.drop 46 = dktX0_half_2 := dk_seg dksX0_half_1 23 rfl rfl
theorem dksX0_half_3 : cX0_half.data.toList.drop 70 = dktX0_half_3 := dk_seg dksX0_half_2 24 rfl rfl
theorem dX0_half_0 : decode cX0_half 0 = .ok (.iload_n 1, 1) := dk_27 (dk_at dksX0_half_0 0 rfl rfl)
theorem dX0_half_1 : decode cX0_half 1 = .ok (.invokestatic 59, 3) := dk_184 0 59 (dk_at dksX0_half_0 1 rfl rfl)
theorem dX0_half_4 : decode cX0_half 4 = .ok (.ifCond .ne 6, 3) := dk_154 0 6 (dk_at dksX0_half_0 4 rfl rfl)
theorem dX0_half_7 : decode cX0_half 7 = .ok (.bipush (-2), 2) := dk_16 254 (dk_at dksX0_half_0 7 rfl rfl)
theorem dX0_half_9 : decode cX0_half 9 = .ok (.ireturn, 1) := dk_172 (dk_at dksX0_half_0 9 rfl rfl)
theorem dX0_half_10 : decode cX0_half 10 = .ok (.aload_n 0, 1) := dk_42 (dk_at dksX0_half_0 10 rfl rfl)
theorem dX0_half_11 : decode cX0_half 11 = .ok (.iload_n 1, 1) := dk_27 (dk_at dksX0_half_0 11 rfl rfl)
theorem dX0_half_12 : decode cX0_half 12 = .ok (.invokevirtual 122, 3) := dk_182 0 122 (dk_at dksX0_half_0 12 rfl rfl)
theorem dX0_half_15 : decode cX0_half 15 = .ok (.istore_n 2, 1) := dk_61 (dk_at dksX0_half_0 15 rfl rfl)
theorem dX0_half_16 : decode cX0_half 16 = .ok (.aload_n 0, 1) := dk_42 (dk_at dksX0_half_0 16 rfl rfl)
theorem dX0_half_17 : decode cX0_half 17 = .ok (.iload_n 1, 1) := dk_27 (dk_at dksX0_half_0 17 rfl rfl)
theorem dX0_half_18 : decode cX0_half 18 = .ok (.invokevirtual 102, 3) := dk_182 0 102 (dk_at dksX0_half_0 18 rfl rfl)
theorem dX0_half_21 : decode cX0_half 21 = .ok (.istore_n 3, 1) := dk_62 (dk_at dksX0_half_0 21 rfl rfl)
theorem dX0_half_22 : decode cX0_half 22 = .ok (.iconst 0, 1) := dk_3 (dk_at dksX0_half_0 22 rfl rfl)
theorem dX0_half_23 : decode cX0_half 23 = .ok (.istore 4, 2) := dk_54 4 (dk_at dksX0_half_1 0 rfl rfl)
theorem dX0_half_25 : decode cX0_half 25 = .ok (.iconst 0, 1) := dk_3 (dk_at dksX0_half_1 2 rfl rfl)
theorem dX0_half_26 : decode cX0_half 26 = .ok (.istore 5, 2) := dk_54 5 (dk_at dksX0_half_1 3 rfl rfl)
theorem dX0_half_28 : decode cX0_half 28 = .ok (.iload 5, 2) := dk_21 5 (dk_at dksX0_half_1 5 rfl rfl)
theorem dX0_half_30 : decode cX0_half 30 = .ok (.bipush 8, 2) := dk_16 8 (dk_at dksX0_half_1 7 rfl rfl)
theorem dX0_half_32 : decode cX0_half 32 = .ok (.if_icmp .ge 37, 3) := dk_162 0 37 (dk_at dksX0_half_1 9 rfl rfl)
theorem dX0_half_35 : decode cX0_half 35 = .ok (.iload_n 2, 1) := dk_28 (dk_at dksX0_half_1 12 rfl rfl)
theorem dX0_half_36 : decode cX0_half 36 = .ok (.ifCond .le 33, 3) := dk_158 0 33 (dk_at dksX0_half_1 13 rfl rfl)
theorem dX0_half_39 : decode cX0_half 39 = .ok (.iload 4, 2) := dk_21 4 (dk_at dksX0_half_1 16 rfl rfl)
theorem dX0_half_41 : decode cX0_half 41 = .ok (.aload_n 0, 1) := dk_42 (dk_at dksX0_half_1 18 rfl rfl)
theorem dX0_half_42 : decode cX0_half 42 = .ok (.iload_n 3, 1) := dk_29 (dk_at dksX0_half_1 19 rfl rfl)
theorem dX0_half_43 : decode cX0_half 43 = .ok (.iload_n 1, 1) := dk_27 (dk_at dksX0_half_1 20 rfl rfl)
theorem dX0_half_44 : decode cX0_half 44 = .ok (.iload 5, 2) := dk_21 5 (dk_at dksX0_half_1 21 rfl rfl)
theorem dX0_half_46 : decode cX0_half 46 = .ok (.invokevirtual 379, 3) := dk_182 1 123 (dk_at dksX0_half_2 0 rfl rfl)
theorem dX0_half_49 : decode cX0_half 49 = .ok (.iadd, 1) := dk_96 (dk_at dksX0_half_2 3 rfl rfl)
theorem dX0_half_50 : decode cX0_half 50 = .ok (.istore 4, 2) := dk_54 4 (dk_at dksX0_half_2 4 rfl rfl)
theorem dX0_half_52 : decode cX0_half 52 = .ok (.iconst 2, 1) := dk_5 (dk_at dksX0_half_2 6 rfl rfl)
theorem dX0_half_53 : decode cX0_half 53 = .ok (.iload 4, 2) := dk_21 4 (dk_at dksX0_half_2 7 rfl rfl)
theorem dX0_half_55 : decode cX0_half 55 = .ok (.imul, 1) := dk_104 (dk_at dksX0_half_2 9 rfl rfl)
theorem dX0_half_56 : decode cX0_half 56 = .ok (.iload_n 2, 1) := dk_28 (dk_at dksX0_half_2 10 rfl rfl)
theorem dX0_half_57 : decode cX0_half 57 = .ok (.if_icmp .lt 6, 3) := dk_161 0 6 (dk_at dksX0_half_2 11 rfl rfl)
theorem dX0_half_60 : decode cX0_half 60 = .ok (.iload 5, 2) := dk_21 5 (dk_at dksX0_half_2 14 rfl rfl)
theorem dX0_half_62 : decode cX0_half 62 = .ok (.ireturn, 1) := dk_172 (dk_at dksX0_half_2 16 rfl rfl)
theorem dX0_half_63 : decode cX0_half 63 = .ok (.iinc 5 1, 3) := dk_132 5 1 (dk_at dksX0_half_2 17 rfl rfl)
theorem dX0_half_66 : decode cX0_half 66 = .ok (.goto (-38), 3) := dk_167 255 218 (dk_at dksX0_half_2 20 rfl rfl)
theorem dX0_half_69 : decode cX0_half 69 = .ok (.iconst (-1), 1) := dk_2 (dk_at dksX0_half_2 23 rfl rfl)
theorem dX0_half_70 : decode cX0_half 70 = .ok (.ireturn, 1) := dk_172 (dk_at dksX0_half_3 0 rfl rfl)
abbrev cX0_brightest : ByteArray := prog_1_method_59_code
def yX0_brightest : MethodName := ⟨RX0, "brightest", "(I)I"⟩
def dkwX0_brightest_1 : List UInt8 := [180, 1, 155, 167, 0, 7, 42, 180, 1, 152, 172]
abbrev dktX0_brightest_1 : List UInt8 := dkwX0_brightest_1 ++ []
def dkwX0_brightest_0 : List UInt8 := [27, 133, 9, 10, 184, 0, 14, 154, 0, 6, 16, 254, 172, 42, 3, 182, 1, 175, 27, 154, 0, 10, 42]
abbrev dktX0_brightest_0 : List UInt8 := dkwX0_brightest_0 ++ dktX0_brightest_1
theorem dksX0_brightest_0 : cX0_brightest.data.toList.drop 0 = dktX0_brightest_0 := by decide +kernel
theorem dksX0_brightest_1 : cX0_brightest.data.toList.drop 23 = dktX0_brightest_1 := dk_seg dksX0_brightest_0 23 rfl rfl
theorem dX0_brightest_0 : decode cX0_brightest 0 = .ok (.iload_n 1, 1) := dk_27 (dk_at dksX0_brightest_0 0 rfl rfl)
theorem dX0_brightest_1 : decode cX0_brightest 1 = .ok (.i2l, 1) := dk_133 (dk_at dksX0_brightest_0 1 rfl rfl)
theorem dX0_brightest_2 : decode cX0_brightest 2 = .ok (.lconst 0, 1) := dk_9 (dk_at dksX0_brightest_0 2 rfl rfl)
theorem dX0_brightest_3 : decode cX0_brightest 3 = .ok (.lconst 1, 1) := dk_10 (dk_at dksX0_brightest_0 3 rfl rfl)
theorem dX0_brightest_4 : decode cX0_brightest 4 = .ok (.invokestatic 14, 3) := dk_184 0 14 (dk_at dksX0_brightest_0 4 rfl rfl)
theorem dX0_brightest_7 : decode cX0_brightest 7 = .ok (.ifCond .ne 6, 3) := dk_154 0 6 (dk_at dksX0_brightest_0 7 rfl rfl)
theorem dX0_brightest_10 : decode cX0_brightest 10 = .ok (.bipush (-2), 2) := dk_16 254 (dk_at dksX0_brightest_0 10 rfl rfl)
theorem dX0_brightest_12 : decode cX0_brightest 12 = .ok (.ireturn, 1) := dk_172 (dk_at dksX0_brightest_0 12 rfl rfl)
theorem dX0_brightest_13 : decode cX0_brightest 13 = .ok (.aload_n 0, 1) := dk_42 (dk_at dksX0_brightest_0 13 rfl rfl)
theorem dX0_brightest_14 : decode cX0_brightest 14 = .ok (.iconst 0, 1) := dk_3 (dk_at dksX0_brightest_0 14 rfl rfl)
theorem dX0_brightest_15 : decode cX0_brightest 15 = .ok (.invokevirtual 431, 3) := dk_182 1 175 (dk_at dksX0_brightest_0 15 rfl rfl)
theorem dX0_brightest_18 : decode cX0_brightest 18 = .ok (.iload_n 1, 1) := dk_27 (dk_at dksX0_brightest_0 18 rfl rfl)
theorem dX0_brightest_19 : decode cX0_brightest 19 = .ok (.ifCond .ne 10, 3) := dk_154 0 10 (dk_at dksX0_brightest_0 19 rfl rfl)
theorem dX0_brightest_22 : decode cX0_brightest 22 = .ok (.aload_n 0, 1) := dk_42 (dk_at dksX0_brightest_0 22 rfl rfl)
theorem dX0_brightest_23 : decode cX0_brightest 23 = .ok (.getfield 411, 3) := dk_180 1 155 (dk_at dksX0_brightest_1 0 rfl rfl)
theorem dX0_brightest_26 : decode cX0_brightest 26 = .ok (.goto 7, 3) := dk_167 0 7 (dk_at dksX0_brightest_1 3 rfl rfl)
theorem dX0_brightest_29 : decode cX0_brightest 29 = .ok (.aload_n 0, 1) := dk_42 (dk_at dksX0_brightest_1 6 rfl rfl)
theorem dX0_brightest_30 : decode cX0_brightest 30 = .ok (.getfield 408, 3) := dk_180 1 152 (dk_at dksX0_brightest_1 7 rfl rfl)
theorem dX0_brightest_33 : decode cX0_brightest 33 = .ok (.ireturn, 1) := dk_172 (dk_at dksX0_brightest_1 10 rfl rfl)
abbrev cX0_goesThrough : ByteArray := prog_1_method_58_code
def yX0_goesThrough : MethodName := ⟨RX0, "goesThrough", "(I)V"⟩
def dkwX0_goesThrough_1 : List UInt8 := [42, 3, 2, 3, 3, 3, 3, 182, 1, 168, 177]
abbrev dktX0_goesThrough_1 : List UInt8 := dkwX0_goesThrough_1 ++ []
def dkwX0_goesThrough_0 : List UInt8 := [42, 182, 1, 172, 42, 27, 181, 1, 158, 42, 3, 181, 1, 149, 42, 3, 181, 1, 152, 42, 3, 181, 1, 155]
abbrev dktX0_goesThrough_0 : List UInt8 := dkwX0_goesThrough_0 ++ dktX0_goesThrough_1
theorem dksX0_goesThrough_0 : cX0_goesThrough.data.toList.drop 0 = dktX0_goesThrough_0 := by decide +kernel
theorem dksX0_goesThrough_1 : cX0_goesThrough.data.toList.drop 24 = dktX0_goesThrough_1 := dk_seg dksX0_goesThrough_0 24 rfl rfl
theorem dX0_goesThrough_0 : decode cX0_goesThrough 0 = .ok (.aload_n 0, 1) := dk_42 (dk_at dksX0_goesThrough_0 0 rfl rfl)
theorem dX0_goesThrough_1 : decode cX0_goesThrough 1 = .ok (.invokevirtual 428, 3) := dk_182 1 172 (dk_at dksX0_goesThrough_0 1 rfl rfl)
theorem dX0_goesThrough_4 : decode cX0_goesThrough 4 = .ok (.aload_n 0, 1) := dk_42 (dk_at dksX0_goesThrough_0 4 rfl rfl)
theorem dX0_goesThrough_5 : decode cX0_goesThrough 5 = .ok (.iload_n 1, 1) := dk_27 (dk_at dksX0_goesThrough_0 5 rfl rfl)
theorem dX0_goesThrough_6 : decode cX0_goesThrough 6 = .ok (.putfield 414, 3) := dk_181 1 158 (dk_at dksX0_goesThrough_0 6 rfl rfl)
theorem dX0_goesThrough_9 : decode cX0_goesThrough 9 = .ok (.aload_n 0, 1) := dk_42 (dk_at dksX0_goesThrough_0 9 rfl rfl)
theorem dX0_goesThrough_10 : decode cX0_goesThrough 10 = .ok (.iconst 0, 1) := dk_3 (dk_at dksX0_goesThrough_0 10 rfl rfl)
theorem dX0_goesThrough_11 : decode cX0_goesThrough 11 = .ok (.putfield 405, 3) := dk_181 1 149 (dk_at dksX0_goesThrough_0 11 rfl rfl)
theorem dX0_goesThrough_14 : decode cX0_goesThrough 14 = .ok (.aload_n 0, 1) := dk_42 (dk_at dksX0_goesThrough_0 14 rfl rfl)
theorem dX0_goesThrough_15 : decode cX0_goesThrough 15 = .ok (.iconst 0, 1) := dk_3 (dk_at dksX0_goesThrough_0 15 rfl rfl)
theorem dX0_goesThrough_16 : decode cX0_goesThrough 16 = .ok (.putfield 408, 3) := dk_181 1 152 (dk_at dksX0_goesThrough_0 16 rfl rfl)
theorem dX0_goesThrough_19 : decode cX0_goesThrough 19 = .ok (.aload_n 0, 1) := dk_42 (dk_at dksX0_goesThrough_0 19 rfl rfl)
theorem dX0_goesThrough_20 : decode cX0_goesThrough 20 = .ok (.iconst 0, 1) := dk_3 (dk_at dksX0_goesThrough_0 20 rfl rfl)
theorem dX0_goesThrough_21 : decode cX0_goesThrough 21 = .ok (.putfield 411, 3) := dk_181 1 155 (dk_at dksX0_goesThrough_0 21 rfl rfl)
theorem dX0_goesThrough_24 : decode cX0_goesThrough 24 = .ok (.aload_n 0, 1) := dk_42 (dk_at dksX0_goesThrough_1 0 rfl rfl)
theorem dX0_goesThrough_25 : decode cX0_goesThrough 25 = .ok (.iconst 0, 1) := dk_3 (dk_at dksX0_goesThrough_1 1 rfl rfl)
theorem dX0_goesThrough_26 : decode cX0_goesThrough 26 = .ok (.iconst (-1), 1) := dk_2 (dk_at dksX0_goesThrough_1 2 rfl rfl)
theorem dX0_goesThrough_27 : decode cX0_goesThrough 27 = .ok (.iconst 0, 1) := dk_3 (dk_at dksX0_goesThrough_1 3 rfl rfl)
theorem dX0_goesThrough_28 : decode cX0_goesThrough 28 = .ok (.iconst 0, 1) := dk_3 (dk_at dksX0_goesThrough_1 4 rfl rfl)
theorem dX0_goesThrough_29 : decode cX0_goesThrough 29 = .ok (.iconst 0, 1) := dk_3 (dk_at dksX0_goesThrough_1 5 rfl rfl)
theorem dX0_goesThrough_30 : decode cX0_goesThrough 30 = .ok (.iconst 0, 1) := dk_3 (dk_at dksX0_goesThrough_1 6 rfl rfl)
theorem dX0_goesThrough_31 : decode cX0_goesThrough 31 = .ok (.invokevirtual 424, 3) := dk_182 1 168 (dk_at dksX0_goesThrough_1 7 rfl rfl)
theorem dX0_goesThrough_34 : decode cX0_goesThrough 34 = .ok (.return_, 1) := dk_177 (dk_at dksX0_goesThrough_1 10 rfl rfl)
abbrev cX0_tellsAll : ByteArray := prog_1_method_54_code
def yX0_tellsAll : MethodName := ⟨RX0, "tellsAll", "()V"⟩
def dkwX0_tellsAll_4 : List UInt8 := [132, 1, 1, 167, 255, 161, 177]
abbrev dktX0_tellsAll_4 : List UInt8 := dkwX0_tellsAll_4 ++ []
def dkwX0_tellsAll_3 : List UInt8 := [182, 1, 130, 153, 0, 7, 4, 167, 0, 4, 3, 84, 132, 3, 1, 167, 255, 215, 132, 2, 1, 167, 255, 188]
abbrev dktX0_tellsAll_3 : List UInt8 := dkwX0_tellsAll_3 ++ dktX0_tellsAll_4
def dkwX0_tellsAll_2 : List UInt8 := [180, 0, 18, 162, 0, 39, 42, 180, 1, 58, 28, 50, 27, 50, 29, 27, 29, 159, 0, 17, 42, 27, 29, 28]
abbrev dktX0_tellsAll_2 : List UInt8 := dkwX0_tellsAll_2 ++ dktX0_tellsAll_3
def dkwX0_tellsAll_1 : List UInt8 := [7, 162, 0, 69, 42, 180, 1, 50, 27, 50, 28, 42, 27, 28, 182, 1, 127, 79, 3, 62, 29, 42]
abbrev dktX0_tellsAll_1 : List UInt8 := dkwX0_tellsAll_1 ++ dktX0_tellsAll_2
def dkwX0_tellsAll_0 : List UInt8 := [3, 60, 27, 42, 180, 0, 18, 162, 0, 93, 42, 180, 1, 53, 27, 42, 27, 182, 0, 119, 79, 3, 61, 28]
abbrev dktX0_tellsAll_0 : List UInt8 := dkwX0_tellsAll_0 ++ dktX0_tellsAll_1
theorem dksX0_tellsAll_0 : cX0_tellsAll.data.toList.drop 0 = dktX0_tellsAll_0 := by decide +kernel
theorem dksX0_tellsAll_1 : cX0_tellsAll.data.toList.drop 24 = dktX0_tellsAll_1 := dk_seg dksX0_tellsAll_0 24 rfl rfl
theorem dksX0_tellsAll_2 : cX0_tellsAll.data.toList.drop 46 = dktX0_tellsAll_2 := dk_seg dksX0_tellsAll_1 22 rfl rfl
theorem dksX0_tellsAll_3 : cX0_tellsAll.data.toList.drop 70 = dktX0_tellsAll_3 := dk_seg dksX0_tellsAll_2 24 rfl rfl
theorem dksX0_tellsAll_4 : cX0_tellsAll.data.toList.drop 94 = dktX0_tellsAll_4 := dk_seg dksX0_tellsAll_3 24 rfl rfl
theorem dX0_tellsAll_0 : decode cX0_tellsAll 0 = .ok (.iconst 0, 1) := dk_3 (dk_at dksX0_tellsAll_0 0 rfl rfl)
theorem dX0_tellsAll_1 : decode cX0_tellsAll 1 = .ok (.istore_n 1, 1) := dk_60 (dk_at dksX0_tellsAll_0 1 rfl rfl)
theorem dX0_tellsAll_2 : decode cX0_tellsAll 2 = .ok (.iload_n 1, 1) := dk_27 (dk_at dksX0_tellsAll_0 2 rfl rfl)
theorem dX0_tellsAll_3 : decode cX0_tellsAll 3 = .ok (.aload_n 0, 1) := dk_42 (dk_at dksX0_tellsAll_0 3 rfl rfl)
theorem dX0_tellsAll_4 : decode cX0_tellsAll 4 = .ok (.getfield 18, 3) := dk_180 0 18 (dk_at dksX0_tellsAll_0 4 rfl rfl)
theorem dX0_tellsAll_7 : decode cX0_tellsAll 7 = .ok (.if_icmp .ge 93, 3) := dk_162 0 93 (dk_at dksX0_tellsAll_0 7 rfl rfl)
theorem dX0_tellsAll_10 : decode cX0_tellsAll 10 = .ok (.aload_n 0, 1) := dk_42 (dk_at dksX0_tellsAll_0 10 rfl rfl)
theorem dX0_tellsAll_11 : decode cX0_tellsAll 11 = .ok (.getfield 309, 3) := dk_180 1 53 (dk_at dksX0_tellsAll_0 11 rfl rfl)
theorem dX0_tellsAll_14 : decode cX0_tellsAll 14 = .ok (.iload_n 1, 1) := dk_27 (dk_at dksX0_tellsAll_0 14 rfl rfl)
theorem dX0_tellsAll_15 : decode cX0_tellsAll 15 = .ok (.aload_n 0, 1) := dk_42 (dk_at dksX0_tellsAll_0 15 rfl rfl)
theorem dX0_tellsAll_16 : decode cX0_tellsAll 16 = .ok (.iload_n 1, 1) := dk_27 (dk_at dksX0_tellsAll_0 16 rfl rfl)
theorem dX0_tellsAll_17 : decode cX0_tellsAll 17 = .ok (.invokevirtual 119, 3) := dk_182 0 119 (dk_at dksX0_tellsAll_0 17 rfl rfl)
theorem dX0_tellsAll_20 : decode cX0_tellsAll 20 = .ok (.iastore, 1) := dk_79 (dk_at dksX0_tellsAll_0 20 rfl rfl)
theorem dX0_tellsAll_21 : decode cX0_tellsAll 21 = .ok (.iconst 0, 1) := dk_3 (dk_at dksX0_tellsAll_0 21 rfl rfl)
theorem dX0_tellsAll_22 : decode cX0_tellsAll 22 = .ok (.istore_n 2, 1) := dk_61 (dk_at dksX0_tellsAll_0 22 rfl rfl)
theorem dX0_tellsAll_23 : decode cX0_tellsAll 23 = .ok (.iload_n 2, 1) := dk_28 (dk_at dksX0_tellsAll_0 23 rfl rfl)
theorem dX0_tellsAll_24 : decode cX0_tellsAll 24 = .ok (.iconst 4, 1) := dk_7 (dk_at dksX0_tellsAll_1 0 rfl rfl)
theorem dX0_tellsAll_25 : decode cX0_tellsAll 25 = .ok (.if_icmp .ge 69, 3) := dk_162 0 69 (dk_at dksX0_tellsAll_1 1 rfl rfl)
theorem dX0_tellsAll_28 : decode cX0_tellsAll 28 = .ok (.aload_n 0, 1) := dk_42 (dk_at dksX0_tellsAll_1 4 rfl rfl)
theorem dX0_tellsAll_29 : decode cX0_tellsAll 29 = .ok (.getfield 306, 3) := dk_180 1 50 (dk_at dksX0_tellsAll_1 5 rfl rfl)
theorem dX0_tellsAll_32 : decode cX0_tellsAll 32 = .ok (.iload_n 1, 1) := dk_27 (dk_at dksX0_tellsAll_1 8 rfl rfl)
theorem dX0_tellsAll_33 : decode cX0_tellsAll 33 = .ok (.aaload, 1) := dk_50 (dk_at dksX0_tellsAll_1 9 rfl rfl)
theorem dX0_tellsAll_34 : decode cX0_tellsAll 34 = .ok (.iload_n 2, 1) := dk_28 (dk_at dksX0_tellsAll_1 10 rfl rfl)
theorem dX0_tellsAll_35 : decode cX0_tellsAll 35 = .ok (.aload_n 0, 1) := dk_42 (dk_at dksX0_tellsAll_1 11 rfl rfl)
theorem dX0_tellsAll_36 : decode cX0_tellsAll 36 = .ok (.iload_n 1, 1) := dk_27 (dk_at dksX0_tellsAll_1 12 rfl rfl)
theorem dX0_tellsAll_37 : decode cX0_tellsAll 37 = .ok (.iload_n 2, 1) := dk_28 (dk_at dksX0_tellsAll_1 13 rfl rfl)
theorem dX0_tellsAll_38 : decode cX0_tellsAll 38 = .ok (.invokevirtual 383, 3) := dk_182 1 127 (dk_at dksX0_tellsAll_1 14 rfl rfl)
theorem dX0_tellsAll_41 : decode cX0_tellsAll 41 = .ok (.iastore, 1) := dk_79 (dk_at dksX0_tellsAll_1 17 rfl rfl)
theorem dX0_tellsAll_42 : decode cX0_tellsAll 42 = .ok (.iconst 0, 1) := dk_3 (dk_at dksX0_tellsAll_1 18 rfl rfl)
theorem dX0_tellsAll_43 : decode cX0_tellsAll 43 = .ok (.istore_n 3, 1) := dk_62 (dk_at dksX0_tellsAll_1 19 rfl rfl)
theorem dX0_tellsAll_44 : decode cX0_tellsAll 44 = .ok (.iload_n 3, 1) := dk_29 (dk_at dksX0_tellsAll_1 20 rfl rfl)
theorem dX0_tellsAll_45 : decode cX0_tellsAll 45 = .ok (.aload_n 0, 1) := dk_42 (dk_at dksX0_tellsAll_1 21 rfl rfl)
theorem dX0_tellsAll_46 : decode cX0_tellsAll 46 = .ok (.getfield 18, 3) := dk_180 0 18 (dk_at dksX0_tellsAll_2 0 rfl rfl)
theorem dX0_tellsAll_49 : decode cX0_tellsAll 49 = .ok (.if_icmp .ge 39, 3) := dk_162 0 39 (dk_at dksX0_tellsAll_2 3 rfl rfl)
theorem dX0_tellsAll_52 : decode cX0_tellsAll 52 = .ok (.aload_n 0, 1) := dk_42 (dk_at dksX0_tellsAll_2 6 rfl rfl)
theorem dX0_tellsAll_53 : decode cX0_tellsAll 53 = .ok (.getfield 314, 3) := dk_180 1 58 (dk_at dksX0_tellsAll_2 7 rfl rfl)
theorem dX0_tellsAll_56 : decode cX0_tellsAll 56 = .ok (.iload_n 2, 1) := dk_28 (dk_at dksX0_tellsAll_2 10 rfl rfl)
theorem dX0_tellsAll_57 : decode cX0_tellsAll 57 = .ok (.aaload, 1) := dk_50 (dk_at dksX0_tellsAll_2 11 rfl rfl)
theorem dX0_tellsAll_58 : decode cX0_tellsAll 58 = .ok (.iload_n 1, 1) := dk_27 (dk_at dksX0_tellsAll_2 12 rfl rfl)
theorem dX0_tellsAll_59 : decode cX0_tellsAll 59 = .ok (.aaload, 1) := dk_50 (dk_at dksX0_tellsAll_2 13 rfl rfl)
theorem dX0_tellsAll_60 : decode cX0_tellsAll 60 = .ok (.iload_n 3, 1) := dk_29 (dk_at dksX0_tellsAll_2 14 rfl rfl)
theorem dX0_tellsAll_61 : decode cX0_tellsAll 61 = .ok (.iload_n 1, 1) := dk_27 (dk_at dksX0_tellsAll_2 15 rfl rfl)
theorem dX0_tellsAll_62 : decode cX0_tellsAll 62 = .ok (.iload_n 3, 1) := dk_29 (dk_at dksX0_tellsAll_2 16 rfl rfl)
theorem dX0_tellsAll_63 : decode cX0_tellsAll 63 = .ok (.if_icmp .eq 17, 3) := dk_159 0 17 (dk_at dksX0_tellsAll_2 17 rfl rfl)
theorem dX0_tellsAll_66 : decode cX0_tellsAll 66 = .ok (.aload_n 0, 1) := dk_42 (dk_at dksX0_tellsAll_2 20 rfl rfl)
theorem dX0_tellsAll_67 : decode cX0_tellsAll 67 = .ok (.iload_n 1, 1) := dk_27 (dk_at dksX0_tellsAll_2 21 rfl rfl)
theorem dX0_tellsAll_68 : decode cX0_tellsAll 68 = .ok (.iload_n 3, 1) := dk_29 (dk_at dksX0_tellsAll_2 22 rfl rfl)
theorem dX0_tellsAll_69 : decode cX0_tellsAll 69 = .ok (.iload_n 2, 1) := dk_28 (dk_at dksX0_tellsAll_2 23 rfl rfl)
theorem dX0_tellsAll_70 : decode cX0_tellsAll 70 = .ok (.invokevirtual 386, 3) := dk_182 1 130 (dk_at dksX0_tellsAll_3 0 rfl rfl)
theorem dX0_tellsAll_73 : decode cX0_tellsAll 73 = .ok (.ifCond .eq 7, 3) := dk_153 0 7 (dk_at dksX0_tellsAll_3 3 rfl rfl)
theorem dX0_tellsAll_76 : decode cX0_tellsAll 76 = .ok (.iconst 1, 1) := dk_4 (dk_at dksX0_tellsAll_3 6 rfl rfl)
theorem dX0_tellsAll_77 : decode cX0_tellsAll 77 = .ok (.goto 4, 3) := dk_167 0 4 (dk_at dksX0_tellsAll_3 7 rfl rfl)
theorem dX0_tellsAll_80 : decode cX0_tellsAll 80 = .ok (.iconst 0, 1) := dk_3 (dk_at dksX0_tellsAll_3 10 rfl rfl)
theorem dX0_tellsAll_81 : decode cX0_tellsAll 81 = .ok (.bastore, 1) := dk_84 (dk_at dksX0_tellsAll_3 11 rfl rfl)
theorem dX0_tellsAll_82 : decode cX0_tellsAll 82 = .ok (.iinc 3 1, 3) := dk_132 3 1 (dk_at dksX0_tellsAll_3 12 rfl rfl)
theorem dX0_tellsAll_85 : decode cX0_tellsAll 85 = .ok (.goto (-41), 3) := dk_167 255 215 (dk_at dksX0_tellsAll_3 15 rfl rfl)
theorem dX0_tellsAll_88 : decode cX0_tellsAll 88 = .ok (.iinc 2 1, 3) := dk_132 2 1 (dk_at dksX0_tellsAll_3 18 rfl rfl)
theorem dX0_tellsAll_91 : decode cX0_tellsAll 91 = .ok (.goto (-68), 3) := dk_167 255 188 (dk_at dksX0_tellsAll_3 21 rfl rfl)
theorem dX0_tellsAll_94 : decode cX0_tellsAll 94 = .ok (.iinc 1 1, 3) := dk_132 1 1 (dk_at dksX0_tellsAll_4 0 rfl rfl)
theorem dX0_tellsAll_97 : decode cX0_tellsAll 97 = .ok (.goto (-95), 3) := dk_167 255 161 (dk_at dksX0_tellsAll_4 3 rfl rfl)
theorem dX0_tellsAll_100 : decode cX0_tellsAll 100 = .ok (.return_, 1) := dk_177 (dk_at dksX0_tellsAll_4 6 rfl rfl)
abbrev cX0_tries : ByteArray := prog_1_method_57_code
def yX0_tries : MethodName := ⟨RX0, "tries", "(IIIIII)V"⟩
def dkwX0_tries_9 : List UInt8 := [167, 255, 104, 177]
abbrev dktX0_tries_9 : List UInt8 := dkwX0_tries_9 ++ []
def dkwX0_tries_8 : List UInt8 := [180, 1, 53, 21, 7, 46, 96, 16, 10, 21, 6, 104, 21, 7, 96, 4, 96, 182, 1, 168, 132, 7, 1]
abbrev dktX0_tries_8 : List UInt8 := dkwX0_tries_8 ++ dktX0_tries_9
def dkwX0_tries_7 : List UInt8 := [21, 7, 29, 4, 21, 7, 120, 128, 21, 4, 42, 180, 1, 50, 21, 7, 50, 27, 46, 96, 21, 5, 42]
abbrev dktX0_tries_7 : List UInt8 := dkwX0_tries_7 ++ dktX0_tries_8
def dkwX0_tries_6 : List UInt8 := [21, 5, 42, 180, 1, 53, 21, 7, 46, 96, 42, 180, 0, 68, 164, 0, 6, 167, 0, 50, 42, 27, 4, 96]
abbrev dktX0_tries_6 : List UInt8 := dkwX0_tries_6 ++ dktX0_tries_7
def dkwX0_tries_5 : List UInt8 := [154, 0, 7, 4, 167, 0, 4, 3, 54, 8, 21, 8, 153, 0, 78, 42, 180, 1, 158, 5, 160, 0, 23]
abbrev dktX0_tries_5 : List UInt8 := dkwX0_tries_5 ++ dktX0_tries_6
def dkwX0_tries_4 : List UInt8 := [182, 1, 164, 153, 0, 28, 28, 2, 159, 0, 19, 42, 180, 1, 58, 27, 4, 100, 50, 28, 50, 21, 7, 51]
abbrev dktX0_tries_4 : List UInt8 := dkwX0_tries_4 ++ dktX0_tries_5
def dkwX0_tries_3 : List UInt8 := [4, 126, 154, 0, 51, 42, 180, 0, 49, 21, 7, 50, 180, 0, 98, 154, 0, 38, 42, 27, 21, 7]
abbrev dktX0_tries_3 : List UInt8 := dkwX0_tries_3 ++ dktX0_tries_4
def dkwX0_tries_2 : List UInt8 := [16, 10, 21, 6, 104, 182, 1, 168, 3, 54, 7, 21, 7, 42, 180, 0, 18, 162, 0, 149, 29, 21, 7, 122]
abbrev dktX0_tries_2 : List UInt8 := dkwX0_tries_2 ++ dktX0_tries_3
def dkwX0_tries_1 : List UInt8 := [182, 1, 161, 177, 42, 27, 2, 182, 1, 164, 153, 0, 21, 42, 27, 4, 96, 2, 29, 21, 4, 21, 5]
abbrev dktX0_tries_1 : List UInt8 := dkwX0_tries_1 ++ dktX0_tries_2
def dkwX0_tries_0 : List UInt8 := [27, 7, 160, 0, 26, 42, 42, 180, 1, 158, 4, 160, 0, 9, 21, 5, 116, 167, 0, 5, 21, 4, 21, 6]
abbrev dktX0_tries_0 : List UInt8 := dkwX0_tries_0 ++ dktX0_tries_1
theorem dksX0_tries_0 : cX0_tries.data.toList.drop 0 = dktX0_tries_0 := by decide +kernel
theorem dksX0_tries_1 : cX0_tries.data.toList.drop 24 = dktX0_tries_1 := dk_seg dksX0_tries_0 24 rfl rfl
theorem dksX0_tries_2 : cX0_tries.data.toList.drop 47 = dktX0_tries_2 := dk_seg dksX0_tries_1 23 rfl rfl
theorem dksX0_tries_3 : cX0_tries.data.toList.drop 71 = dktX0_tries_3 := dk_seg dksX0_tries_2 24 rfl rfl
theorem dksX0_tries_4 : cX0_tries.data.toList.drop 93 = dktX0_tries_4 := dk_seg dksX0_tries_3 22 rfl rfl
theorem dksX0_tries_5 : cX0_tries.data.toList.drop 117 = dktX0_tries_5 := dk_seg dksX0_tries_4 24 rfl rfl
theorem dksX0_tries_6 : cX0_tries.data.toList.drop 140 = dktX0_tries_6 := dk_seg dksX0_tries_5 23 rfl rfl
theorem dksX0_tries_7 : cX0_tries.data.toList.drop 164 = dktX0_tries_7 := dk_seg dksX0_tries_6 24 rfl rfl
theorem dksX0_tries_8 : cX0_tries.data.toList.drop 187 = dktX0_tries_8 := dk_seg dksX0_tries_7 23 rfl rfl
theorem dksX0_tries_9 : cX0_tries.data.toList.drop 210 = dktX0_tries_9 := dk_seg dksX0_tries_8 23 rfl rfl
theorem dX0_tries_0 : decode cX0_tries 0 = .ok (.iload_n 1, 1) := dk_27 (dk_at dksX0_tries_0 0 rfl rfl)
theorem dX0_tries_1 : decode cX0_tries 1 = .ok (.iconst 4, 1) := dk_7 (dk_at dksX0_tries_0 1 rfl rfl)
theorem dX0_tries_2 : decode cX0_tries 2 = .ok (.if_icmp .ne 26, 3) := dk_160 0 26 (dk_at dksX0_tries_0 2 rfl rfl)
theorem dX0_tries_5 : decode cX0_tries 5 = .ok (.aload_n 0, 1) := dk_42 (dk_at dksX0_tries_0 5 rfl rfl)
theorem dX0_tries_6 : decode cX0_tries 6 = .ok (.aload_n 0, 1) := dk_42 (dk_at dksX0_tries_0 6 rfl rfl)
theorem dX0_tries_7 : decode cX0_tries 7 = .ok (.getfield 414, 3) := dk_180 1 158 (dk_at dksX0_tries_0 7 rfl rfl)
theorem dX0_tries_10 : decode cX0_tries 10 = .ok (.iconst 1, 1) := dk_4 (dk_at dksX0_tries_0 10 rfl rfl)
theorem dX0_tries_11 : decode cX0_tries 11 = .ok (.if_icmp .ne 9, 3) := dk_160 0 9 (dk_at dksX0_tries_0 11 rfl rfl)
theorem dX0_tries_14 : decode cX0_tries 14 = .ok (.iload 5, 2) := dk_21 5 (dk_at dksX0_tries_0 14 rfl rfl)
theorem dX0_tries_16 : decode cX0_tries 16 = .ok (.ineg, 1) := dk_116 (dk_at dksX0_tries_0 16 rfl rfl)
theorem dX0_tries_17 : decode cX0_tries 17 = .ok (.goto 5, 3) := dk_167 0 5 (dk_at dksX0_tries_0 17 rfl rfl)
theorem dX0_tries_20 : decode cX0_tries 20 = .ok (.iload 4, 2) := dk_21 4 (dk_at dksX0_tries_0 20 rfl rfl)
theorem dX0_tries_22 : decode cX0_tries 22 = .ok (.iload 6, 2) := dk_21 6 (dk_at dksX0_tries_0 22 rfl rfl)
theorem dX0_tries_24 : decode cX0_tries 24 = .ok (.invokevirtual 417, 3) := dk_182 1 161 (dk_at dksX0_tries_1 0 rfl rfl)
theorem dX0_tries_27 : decode cX0_tries 27 = .ok (.return_, 1) := dk_177 (dk_at dksX0_tries_1 3 rfl rfl)
theorem dX0_tries_28 : decode cX0_tries 28 = .ok (.aload_n 0, 1) := dk_42 (dk_at dksX0_tries_1 4 rfl rfl)
theorem dX0_tries_29 : decode cX0_tries 29 = .ok (.iload_n 1, 1) := dk_27 (dk_at dksX0_tries_1 5 rfl rfl)
theorem dX0_tries_30 : decode cX0_tries 30 = .ok (.iconst (-1), 1) := dk_2 (dk_at dksX0_tries_1 6 rfl rfl)
theorem dX0_tries_31 : decode cX0_tries 31 = .ok (.invokevirtual 420, 3) := dk_182 1 164 (dk_at dksX0_tries_1 7 rfl rfl)
theorem dX0_tries_34 : decode cX0_tries 34 = .ok (.ifCond .eq 21, 3) := dk_153 0 21 (dk_at dksX0_tries_1 10 rfl rfl)
theorem dX0_tries_37 : decode cX0_tries 37 = .ok (.aload_n 0, 1) := dk_42 (dk_at dksX0_tries_1 13 rfl rfl)
theorem dX0_tries_38 : decode cX0_tries 38 = .ok (.iload_n 1, 1) := dk_27 (dk_at dksX0_tries_1 14 rfl rfl)
theorem dX0_tries_39 : decode cX0_tries 39 = .ok (.iconst 1, 1) := dk_4 (dk_at dksX0_tries_1 15 rfl rfl)
theorem dX0_tries_40 : decode cX0_tries 40 = .ok (.iadd, 1) := dk_96 (dk_at dksX0_tries_1 16 rfl rfl)
theorem dX0_tries_41 : decode cX0_tries 41 = .ok (.iconst (-1), 1) := dk_2 (dk_at dksX0_tries_1 17 rfl rfl)
theorem dX0_tries_42 : decode cX0_tries 42 = .ok (.iload_n 3, 1) := dk_29 (dk_at dksX0_tries_1 18 rfl rfl)
theorem dX0_tries_43 : decode cX0_tries 43 = .ok (.iload 4, 2) := dk_21 4 (dk_at dksX0_tries_1 19 rfl rfl)
theorem dX0_tries_45 : decode cX0_tries 45 = .ok (.iload 5, 2) := dk_21 5 (dk_at dksX0_tries_1 21 rfl rfl)
theorem dX0_tries_47 : decode cX0_tries 47 = .ok (.bipush 10, 2) := dk_16 10 (dk_at dksX0_tries_2 0 rfl rfl)
theorem dX0_tries_49 : decode cX0_tries 49 = .ok (.iload 6, 2) := dk_21 6 (dk_at dksX0_tries_2 2 rfl rfl)
theorem dX0_tries_51 : decode cX0_tries 51 = .ok (.imul, 1) := dk_104 (dk_at dksX0_tries_2 4 rfl rfl)
theorem dX0_tries_52 : decode cX0_tries 52 = .ok (.invokevirtual 424, 3) := dk_182 1 168 (dk_at dksX0_tries_2 5 rfl rfl)
theorem dX0_tries_55 : decode cX0_tries 55 = .ok (.iconst 0, 1) := dk_3 (dk_at dksX0_tries_2 8 rfl rfl)
theorem dX0_tries_56 : decode cX0_tries 56 = .ok (.istore 7, 2) := dk_54 7 (dk_at dksX0_tries_2 9 rfl rfl)
theorem dX0_tries_58 : decode cX0_tries 58 = .ok (.iload 7, 2) := dk_21 7 (dk_at dksX0_tries_2 11 rfl rfl)
theorem dX0_tries_60 : decode cX0_tries 60 = .ok (.aload_n 0, 1) := dk_42 (dk_at dksX0_tries_2 13 rfl rfl)
theorem dX0_tries_61 : decode cX0_tries 61 = .ok (.getfield 18, 3) := dk_180 0 18 (dk_at dksX0_tries_2 14 rfl rfl)
theorem dX0_tries_64 : decode cX0_tries 64 = .ok (.if_icmp .ge 149, 3) := dk_162 0 149 (dk_at dksX0_tries_2 17 rfl rfl)
theorem dX0_tries_67 : decode cX0_tries 67 = .ok (.iload_n 3, 1) := dk_29 (dk_at dksX0_tries_2 20 rfl rfl)
theorem dX0_tries_68 : decode cX0_tries 68 = .ok (.iload 7, 2) := dk_21 7 (dk_at dksX0_tries_2 21 rfl rfl)
theorem dX0_tries_70 : decode cX0_tries 70 = .ok (.ishr, 1) := dk_122 (dk_at dksX0_tries_2 23 rfl rfl)
theorem dX0_tries_71 : decode cX0_tries 71 = .ok (.iconst 1, 1) := dk_4 (dk_at dksX0_tries_3 0 rfl rfl)
theorem dX0_tries_72 : decode cX0_tries 72 = .ok (.iand, 1) := dk_126 (dk_at dksX0_tries_3 1 rfl rfl)
theorem dX0_tries_73 : decode cX0_tries 73 = .ok (.ifCond .ne 51, 3) := dk_154 0 51 (dk_at dksX0_tries_3 2 rfl rfl)
theorem dX0_tries_76 : decode cX0_tries 76 = .ok (.aload_n 0, 1) := dk_42 (dk_at dksX0_tries_3 5 rfl rfl)
theorem dX0_tries_77 : decode cX0_tries 77 = .ok (.getfield 49, 3) := dk_180 0 49 (dk_at dksX0_tries_3 6 rfl rfl)
theorem dX0_tries_80 : decode cX0_tries 80 = .ok (.iload 7, 2) := dk_21 7 (dk_at dksX0_tries_3 9 rfl rfl)
theorem dX0_tries_82 : decode cX0_tries 82 = .ok (.aaload, 1) := dk_50 (dk_at dksX0_tries_3 11 rfl rfl)
theorem dX0_tries_83 : decode cX0_tries 83 = .ok (.getfield 98, 3) := dk_180 0 98 (dk_at dksX0_tries_3 12 rfl rfl)
theorem dX0_tries_86 : decode cX0_tries 86 = .ok (.ifCond .ne 38, 3) := dk_154 0 38 (dk_at dksX0_tries_3 15 rfl rfl)
theorem dX0_tries_89 : decode cX0_tries 89 = .ok (.aload_n 0, 1) := dk_42 (dk_at dksX0_tries_3 18 rfl rfl)
theorem dX0_tries_90 : decode cX0_tries 90 = .ok (.iload_n 1, 1) := dk_27 (dk_at dksX0_tries_3 19 rfl rfl)
theorem dX0_tries_91 : decode cX0_tries 91 = .ok (.iload 7, 2) := dk_21 7 (dk_at dksX0_tries_3 20 rfl rfl)
theorem dX0_tries_93 : decode cX0_tries 93 = .ok (.invokevirtual 420, 3) := dk_182 1 164 (dk_at dksX0_tries_4 0 rfl rfl)
theorem dX0_tries_96 : decode cX0_tries 96 = .ok (.ifCond .eq 28, 3) := dk_153 0 28 (dk_at dksX0_tries_4 3 rfl rfl)
theorem dX0_tries_99 : decode cX0_tries 99 = .ok (.iload_n 2, 1) := dk_28 (dk_at dksX0_tries_4 6 rfl rfl)
theorem dX0_tries_100 : decode cX0_tries 100 = .ok (.iconst (-1), 1) := dk_2 (dk_at dksX0_tries_4 7 rfl rfl)
theorem dX0_tries_101 : decode cX0_tries 101 = .ok (.if_icmp .eq 19, 3) := dk_159 0 19 (dk_at dksX0_tries_4 8 rfl rfl)
theorem dX0_tries_104 : decode cX0_tries 104 = .ok (.aload_n 0, 1) := dk_42 (dk_at dksX0_tries_4 11 rfl rfl)
theorem dX0_tries_105 : decode cX0_tries 105 = .ok (.getfield 314, 3) := dk_180 1 58 (dk_at dksX0_tries_4 12 rfl rfl)
theorem dX0_tries_108 : decode cX0_tries 108 = .ok (.iload_n 1, 1) := dk_27 (dk_at dksX0_tries_4 15 rfl rfl)
theorem dX0_tries_109 : decode cX0_tries 109 = .ok (.iconst 1, 1) := dk_4 (dk_at dksX0_tries_4 16 rfl rfl)
theorem dX0_tries_110 : decode cX0_tries 110 = .ok (.isub, 1) := dk_100 (dk_at dksX0_tries_4 17 rfl rfl)
theorem dX0_tries_111 : decode cX0_tries 111 = .ok (.aaload, 1) := dk_50 (dk_at dksX0_tries_4 18 rfl rfl)
theorem dX0_tries_112 : decode cX0_tries 112 = .ok (.iload_n 2, 1) := dk_28 (dk_at dksX0_tries_4 19 rfl rfl)
theorem dX0_tries_113 : decode cX0_tries 113 = .ok (.aaload, 1) := dk_50 (dk_at dksX0_tries_4 20 rfl rfl)
theorem dX0_tries_114 : decode cX0_tries 114 = .ok (.iload 7, 2) := dk_21 7 (dk_at dksX0_tries_4 21 rfl rfl)
theorem dX0_tries_116 : decode cX0_tries 116 = .ok (.baload, 1) := dk_51 (dk_at dksX0_tries_4 23 rfl rfl)
theorem dX0_tries_117 : decode cX0_tries 117 = .ok (.ifCond .ne 7, 3) := dk_154 0 7 (dk_at dksX0_tries_5 0 rfl rfl)
theorem dX0_tries_120 : decode cX0_tries 120 = .ok (.iconst 1, 1) := dk_4 (dk_at dksX0_tries_5 3 rfl rfl)
theorem dX0_tries_121 : decode cX0_tries 121 = .ok (.goto 4, 3) := dk_167 0 4 (dk_at dksX0_tries_5 4 rfl rfl)
theorem dX0_tries_124 : decode cX0_tries 124 = .ok (.iconst 0, 1) := dk_3 (dk_at dksX0_tries_5 7 rfl rfl)
theorem dX0_tries_125 : decode cX0_tries 125 = .ok (.istore 8, 2) := dk_54 8 (dk_at dksX0_tries_5 8 rfl rfl)
theorem dX0_tries_127 : decode cX0_tries 127 = .ok (.iload 8, 2) := dk_21 8 (dk_at dksX0_tries_5 10 rfl rfl)
theorem dX0_tries_129 : decode cX0_tries 129 = .ok (.ifCond .eq 78, 3) := dk_153 0 78 (dk_at dksX0_tries_5 12 rfl rfl)
theorem dX0_tries_132 : decode cX0_tries 132 = .ok (.aload_n 0, 1) := dk_42 (dk_at dksX0_tries_5 15 rfl rfl)
theorem dX0_tries_133 : decode cX0_tries 133 = .ok (.getfield 414, 3) := dk_180 1 158 (dk_at dksX0_tries_5 16 rfl rfl)
theorem dX0_tries_136 : decode cX0_tries 136 = .ok (.iconst 2, 1) := dk_5 (dk_at dksX0_tries_5 19 rfl rfl)
theorem dX0_tries_137 : decode cX0_tries 137 = .ok (.if_icmp .ne 23, 3) := dk_160 0 23 (dk_at dksX0_tries_5 20 rfl rfl)
theorem dX0_tries_140 : decode cX0_tries 140 = .ok (.iload 5, 2) := dk_21 5 (dk_at dksX0_tries_6 0 rfl rfl)
theorem dX0_tries_142 : decode cX0_tries 142 = .ok (.aload_n 0, 1) := dk_42 (dk_at dksX0_tries_6 2 rfl rfl)
theorem dX0_tries_143 : decode cX0_tries 143 = .ok (.getfield 309, 3) := dk_180 1 53 (dk_at dksX0_tries_6 3 rfl rfl)
theorem dX0_tries_146 : decode cX0_tries 146 = .ok (.iload 7, 2) := dk_21 7 (dk_at dksX0_tries_6 6 rfl rfl)
theorem dX0_tries_148 : decode cX0_tries 148 = .ok (.iaload, 1) := dk_46 (dk_at dksX0_tries_6 8 rfl rfl)
theorem dX0_tries_149 : decode cX0_tries 149 = .ok (.iadd, 1) := dk_96 (dk_at dksX0_tries_6 9 rfl rfl)
theorem dX0_tries_150 : decode cX0_tries 150 = .ok (.aload_n 0, 1) := dk_42 (dk_at dksX0_tries_6 10 rfl rfl)
theorem dX0_tries_151 : decode cX0_tries 151 = .ok (.getfield 68, 3) := dk_180 0 68 (dk_at dksX0_tries_6 11 rfl rfl)
theorem dX0_tries_154 : decode cX0_tries 154 = .ok (.if_icmp .le 6, 3) := dk_164 0 6 (dk_at dksX0_tries_6 14 rfl rfl)
theorem dX0_tries_157 : decode cX0_tries 157 = .ok (.goto 50, 3) := dk_167 0 50 (dk_at dksX0_tries_6 17 rfl rfl)
theorem dX0_tries_160 : decode cX0_tries 160 = .ok (.aload_n 0, 1) := dk_42 (dk_at dksX0_tries_6 20 rfl rfl)
theorem dX0_tries_161 : decode cX0_tries 161 = .ok (.iload_n 1, 1) := dk_27 (dk_at dksX0_tries_6 21 rfl rfl)
theorem dX0_tries_162 : decode cX0_tries 162 = .ok (.iconst 1, 1) := dk_4 (dk_at dksX0_tries_6 22 rfl rfl)
theorem dX0_tries_163 : decode cX0_tries 163 = .ok (.iadd, 1) := dk_96 (dk_at dksX0_tries_6 23 rfl rfl)
theorem dX0_tries_164 : decode cX0_tries 164 = .ok (.iload 7, 2) := dk_21 7 (dk_at dksX0_tries_7 0 rfl rfl)
theorem dX0_tries_166 : decode cX0_tries 166 = .ok (.iload_n 3, 1) := dk_29 (dk_at dksX0_tries_7 2 rfl rfl)
theorem dX0_tries_167 : decode cX0_tries 167 = .ok (.iconst 1, 1) := dk_4 (dk_at dksX0_tries_7 3 rfl rfl)
theorem dX0_tries_168 : decode cX0_tries 168 = .ok (.iload 7, 2) := dk_21 7 (dk_at dksX0_tries_7 4 rfl rfl)
theorem dX0_tries_170 : decode cX0_tries 170 = .ok (.ishl, 1) := dk_120 (dk_at dksX0_tries_7 6 rfl rfl)
theorem dX0_tries_171 : decode cX0_tries 171 = .ok (.ior, 1) := dk_128 (dk_at dksX0_tries_7 7 rfl rfl)
theorem dX0_tries_172 : decode cX0_tries 172 = .ok (.iload 4, 2) := dk_21 4 (dk_at dksX0_tries_7 8 rfl rfl)
theorem dX0_tries_174 : decode cX0_tries 174 = .ok (.aload_n 0, 1) := dk_42 (dk_at dksX0_tries_7 10 rfl rfl)
theorem dX0_tries_175 : decode cX0_tries 175 = .ok (.getfield 306, 3) := dk_180 1 50 (dk_at dksX0_tries_7 11 rfl rfl)
theorem dX0_tries_178 : decode cX0_tries 178 = .ok (.iload 7, 2) := dk_21 7 (dk_at dksX0_tries_7 14 rfl rfl)
theorem dX0_tries_180 : decode cX0_tries 180 = .ok (.aaload, 1) := dk_50 (dk_at dksX0_tries_7 16 rfl rfl)
theorem dX0_tries_181 : decode cX0_tries 181 = .ok (.iload_n 1, 1) := dk_27 (dk_at dksX0_tries_7 17 rfl rfl)
theorem dX0_tries_182 : decode cX0_tries 182 = .ok (.iaload, 1) := dk_46 (dk_at dksX0_tries_7 18 rfl rfl)
theorem dX0_tries_183 : decode cX0_tries 183 = .ok (.iadd, 1) := dk_96 (dk_at dksX0_tries_7 19 rfl rfl)
theorem dX0_tries_184 : decode cX0_tries 184 = .ok (.iload 5, 2) := dk_21 5 (dk_at dksX0_tries_7 20 rfl rfl)
theorem dX0_tries_186 : decode cX0_tries 186 = .ok (.aload_n 0, 1) := dk_42 (dk_at dksX0_tries_7 22 rfl rfl)
theorem dX0_tries_187 : decode cX0_tries 187 = .ok (.getfield 309, 3) := dk_180 1 53 (dk_at dksX0_tries_8 0 rfl rfl)
theorem dX0_tries_190 : decode cX0_tries 190 = .ok (.iload 7, 2) := dk_21 7 (dk_at dksX0_tries_8 3 rfl rfl)
theorem dX0_tries_192 : decode cX0_tries 192 = .ok (.iaload, 1) := dk_46 (dk_at dksX0_tries_8 5 rfl rfl)
theorem dX0_tries_193 : decode cX0_tries 193 = .ok (.iadd, 1) := dk_96 (dk_at dksX0_tries_8 6 rfl rfl)
theorem dX0_tries_194 : decode cX0_tries 194 = .ok (.bipush 10, 2) := dk_16 10 (dk_at dksX0_tries_8 7 rfl rfl)
theorem dX0_tries_196 : decode cX0_tries 196 = .ok (.iload 6, 2) := dk_21 6 (dk_at dksX0_tries_8 9 rfl rfl)
theorem dX0_tries_198 : decode cX0_tries 198 = .ok (.imul, 1) := dk_104 (dk_at dksX0_tries_8 11 rfl rfl)
theorem dX0_tries_199 : decode cX0_tries 199 = .ok (.iload 7, 2) := dk_21 7 (dk_at dksX0_tries_8 12 rfl rfl)
theorem dX0_tries_201 : decode cX0_tries 201 = .ok (.iadd, 1) := dk_96 (dk_at dksX0_tries_8 14 rfl rfl)
theorem dX0_tries_202 : decode cX0_tries 202 = .ok (.iconst 1, 1) := dk_4 (dk_at dksX0_tries_8 15 rfl rfl)
theorem dX0_tries_203 : decode cX0_tries 203 = .ok (.iadd, 1) := dk_96 (dk_at dksX0_tries_8 16 rfl rfl)
theorem dX0_tries_204 : decode cX0_tries 204 = .ok (.invokevirtual 424, 3) := dk_182 1 168 (dk_at dksX0_tries_8 17 rfl rfl)
theorem dX0_tries_207 : decode cX0_tries 207 = .ok (.iinc 7 1, 3) := dk_132 7 1 (dk_at dksX0_tries_8 20 rfl rfl)
theorem dX0_tries_210 : decode cX0_tries 210 = .ok (.goto (-152), 3) := dk_167 255 104 (dk_at dksX0_tries_9 0 rfl rfl)
theorem dX0_tries_213 : decode cX0_tries 213 = .ok (.return_, 1) := dk_177 (dk_at dksX0_tries_9 3 rfl rfl)
abbrev cX0_looks : ByteArray := prog_1_method_55_code
def yX0_looks : MethodName := ⟨RX0, "looks", "(II)V"⟩
def dkwX0_looks_1 : List UInt8 := [181, 1, 152, 42, 28, 181, 1, 155, 177]
abbrev dktX0_looks_1 : List UInt8 := dkwX0_looks_1 ++ []
def dkwX0_looks_0 : List UInt8 := [42, 180, 1, 149, 153, 0, 11, 27, 42, 180, 1, 152, 164, 0, 18, 42, 4, 181, 1, 149, 42, 27]
abbrev dktX0_looks_0 : List UInt8 := dkwX0_looks_0 ++ dktX0_looks_1
theorem dksX0_looks_0 : cX0_looks.data.toList.drop 0 = dktX0_looks_0 := by decide +kernel
theorem dksX0_looks_1 : cX0_looks.data.toList.drop 22 = dktX0_looks_1 := dk_seg dksX0_looks_0 22 rfl rfl
theorem dX0_looks_0 : decode cX0_looks 0 = .ok (.aload_n 0, 1) := dk_42 (dk_at dksX0_looks_0 0 rfl rfl)
theorem dX0_looks_1 : decode cX0_looks 1 = .ok (.getfield 405, 3) := dk_180 1 149 (dk_at dksX0_looks_0 1 rfl rfl)
theorem dX0_looks_4 : decode cX0_looks 4 = .ok (.ifCond .eq 11, 3) := dk_153 0 11 (dk_at dksX0_looks_0 4 rfl rfl)
theorem dX0_looks_7 : decode cX0_looks 7 = .ok (.iload_n 1, 1) := dk_27 (dk_at dksX0_looks_0 7 rfl rfl)
theorem dX0_looks_8 : decode cX0_looks 8 = .ok (.aload_n 0, 1) := dk_42 (dk_at dksX0_looks_0 8 rfl rfl)
theorem dX0_looks_9 : decode cX0_looks 9 = .ok (.getfield 408, 3) := dk_180 1 152 (dk_at dksX0_looks_0 9 rfl rfl)
theorem dX0_looks_12 : decode cX0_looks 12 = .ok (.if_icmp .le 18, 3) := dk_164 0 18 (dk_at dksX0_looks_0 12 rfl rfl)
theorem dX0_looks_15 : decode cX0_looks 15 = .ok (.aload_n 0, 1) := dk_42 (dk_at dksX0_looks_0 15 rfl rfl)
theorem dX0_looks_16 : decode cX0_looks 16 = .ok (.iconst 1, 1) := dk_4 (dk_at dksX0_looks_0 16 rfl rfl)
theorem dX0_looks_17 : decode cX0_looks 17 = .ok (.putfield 405, 3) := dk_181 1 149 (dk_at dksX0_looks_0 17 rfl rfl)
theorem dX0_looks_20 : decode cX0_looks 20 = .ok (.aload_n 0, 1) := dk_42 (dk_at dksX0_looks_0 20 rfl rfl)
theorem dX0_looks_21 : decode cX0_looks 21 = .ok (.iload_n 1, 1) := dk_27 (dk_at dksX0_looks_0 21 rfl rfl)
theorem dX0_looks_22 : decode cX0_looks 22 = .ok (.putfield 408, 3) := dk_181 1 152 (dk_at dksX0_looks_1 0 rfl rfl)
theorem dX0_looks_25 : decode cX0_looks 25 = .ok (.aload_n 0, 1) := dk_42 (dk_at dksX0_looks_1 3 rfl rfl)
theorem dX0_looks_26 : decode cX0_looks 26 = .ok (.iload_n 2, 1) := dk_28 (dk_at dksX0_looks_1 4 rfl rfl)
theorem dX0_looks_27 : decode cX0_looks 27 = .ok (.putfield 411, 3) := dk_181 1 155 (dk_at dksX0_looks_1 5 rfl rfl)
theorem dX0_looks_30 : decode cX0_looks 30 = .ok (.return_, 1) := dk_177 (dk_at dksX0_looks_1 8 rfl rfl)
abbrev cX0_isEnough : ByteArray := prog_1_method_56_code
def yX0_isEnough : MethodName := ⟨RX0, "isEnough", "(II)Z"⟩
def dkwX0_isEnough_1 : List UInt8 := [46, 42, 180, 0, 71, 27, 46, 161, 0, 7, 4, 167, 0, 4, 3, 172]
abbrev dktX0_isEnough_1 : List UInt8 := dkwX0_isEnough_1 ++ []
def dkwX0_isEnough_0 : List UInt8 := [42, 180, 1, 158, 4, 160, 0, 29, 28, 2, 160, 0, 7, 3, 167, 0, 11, 42, 180, 1, 50, 28, 50, 27]
abbrev dktX0_isEnough_0 : List UInt8 := dkwX0_isEnough_0 ++ dktX0_isEnough_1
theorem dksX0_isEnough_0 : cX0_isEnough.data.toList.drop 0 = dktX0_isEnough_0 := by decide +kernel
theorem dksX0_isEnough_1 : cX0_isEnough.data.toList.drop 24 = dktX0_isEnough_1 := dk_seg dksX0_isEnough_0 24 rfl rfl
theorem dX0_isEnough_0 : decode cX0_isEnough 0 = .ok (.aload_n 0, 1) := dk_42 (dk_at dksX0_isEnough_0 0 rfl rfl)
theorem dX0_isEnough_1 : decode cX0_isEnough 1 = .ok (.getfield 414, 3) := dk_180 1 158 (dk_at dksX0_isEnough_0 1 rfl rfl)
theorem dX0_isEnough_4 : decode cX0_isEnough 4 = .ok (.iconst 1, 1) := dk_4 (dk_at dksX0_isEnough_0 4 rfl rfl)
theorem dX0_isEnough_5 : decode cX0_isEnough 5 = .ok (.if_icmp .ne 29, 3) := dk_160 0 29 (dk_at dksX0_isEnough_0 5 rfl rfl)
theorem dX0_isEnough_8 : decode cX0_isEnough 8 = .ok (.iload_n 2, 1) := dk_28 (dk_at dksX0_isEnough_0 8 rfl rfl)
theorem dX0_isEnough_9 : decode cX0_isEnough 9 = .ok (.iconst (-1), 1) := dk_2 (dk_at dksX0_isEnough_0 9 rfl rfl)
theorem dX0_isEnough_10 : decode cX0_isEnough 10 = .ok (.if_icmp .ne 7, 3) := dk_160 0 7 (dk_at dksX0_isEnough_0 10 rfl rfl)
theorem dX0_isEnough_13 : decode cX0_isEnough 13 = .ok (.iconst 0, 1) := dk_3 (dk_at dksX0_isEnough_0 13 rfl rfl)
theorem dX0_isEnough_14 : decode cX0_isEnough 14 = .ok (.goto 11, 3) := dk_167 0 11 (dk_at dksX0_isEnough_0 14 rfl rfl)
theorem dX0_isEnough_17 : decode cX0_isEnough 17 = .ok (.aload_n 0, 1) := dk_42 (dk_at dksX0_isEnough_0 17 rfl rfl)
theorem dX0_isEnough_18 : decode cX0_isEnough 18 = .ok (.getfield 306, 3) := dk_180 1 50 (dk_at dksX0_isEnough_0 18 rfl rfl)
theorem dX0_isEnough_21 : decode cX0_isEnough 21 = .ok (.iload_n 2, 1) := dk_28 (dk_at dksX0_isEnough_0 21 rfl rfl)
theorem dX0_isEnough_22 : decode cX0_isEnough 22 = .ok (.aaload, 1) := dk_50 (dk_at dksX0_isEnough_0 22 rfl rfl)
theorem dX0_isEnough_23 : decode cX0_isEnough 23 = .ok (.iload_n 1, 1) := dk_27 (dk_at dksX0_isEnough_0 23 rfl rfl)
theorem dX0_isEnough_24 : decode cX0_isEnough 24 = .ok (.iaload, 1) := dk_46 (dk_at dksX0_isEnough_1 0 rfl rfl)
theorem dX0_isEnough_25 : decode cX0_isEnough 25 = .ok (.aload_n 0, 1) := dk_42 (dk_at dksX0_isEnough_1 1 rfl rfl)
theorem dX0_isEnough_26 : decode cX0_isEnough 26 = .ok (.getfield 71, 3) := dk_180 0 71 (dk_at dksX0_isEnough_1 2 rfl rfl)
theorem dX0_isEnough_29 : decode cX0_isEnough 29 = .ok (.iload_n 1, 1) := dk_27 (dk_at dksX0_isEnough_1 5 rfl rfl)
theorem dX0_isEnough_30 : decode cX0_isEnough 30 = .ok (.iaload, 1) := dk_46 (dk_at dksX0_isEnough_1 6 rfl rfl)
theorem dX0_isEnough_31 : decode cX0_isEnough 31 = .ok (.if_icmp .lt 7, 3) := dk_161 0 7 (dk_at dksX0_isEnough_1 7 rfl rfl)
theorem dX0_isEnough_34 : decode cX0_isEnough 34 = .ok (.iconst 1, 1) := dk_4 (dk_at dksX0_isEnough_1 10 rfl rfl)
theorem dX0_isEnough_35 : decode cX0_isEnough 35 = .ok (.goto 4, 3) := dk_167 0 4 (dk_at dksX0_isEnough_1 11 rfl rfl)
theorem dX0_isEnough_38 : decode cX0_isEnough 38 = .ok (.iconst 0, 1) := dk_3 (dk_at dksX0_isEnough_1 14 rfl rfl)
theorem dX0_isEnough_39 : decode cX0_isEnough 39 = .ok (.ireturn, 1) := dk_172 (dk_at dksX0_isEnough_1 15 rfl rfl)
abbrev cX0_cheapest : ByteArray := prog_1_method_60_code
def yX0_cheapest : MethodName := ⟨RX0, "cheapest", "(I)I"⟩
def dkwX0_cheapest_2 : List UInt8 := [180, 1, 155, 167, 0, 20, 27, 4, 160, 0, 11, 42, 180, 1, 152, 116, 167, 0, 7, 42, 180, 1, 152, 172]
abbrev dktX0_cheapest_2 : List UInt8 := dkwX0_cheapest_2 ++ []
def dkwX0_cheapest_1 : List UInt8 := [167, 0, 4, 5, 182, 1, 175, 42, 180, 1, 149, 154, 0, 5, 2, 172, 27, 5, 112, 154, 0, 10, 42]
abbrev dktX0_cheapest_1 : List UInt8 := dkwX0_cheapest_1 ++ dktX0_cheapest_2
def dkwX0_cheapest_0 : List UInt8 := [27, 133, 9, 20, 0, 12, 184, 0, 14, 154, 0, 6, 16, 254, 172, 42, 27, 5, 162, 0, 7, 4]
abbrev dktX0_cheapest_0 : List UInt8 := dkwX0_cheapest_0 ++ dktX0_cheapest_1
theorem dksX0_cheapest_0 : cX0_cheapest.data.toList.drop 0 = dktX0_cheapest_0 := by decide +kernel
theorem dksX0_cheapest_1 : cX0_cheapest.data.toList.drop 22 = dktX0_cheapest_1 := dk_seg dksX0_cheapest_0 22 rfl rfl
theorem dksX0_cheapest_2 : cX0_cheapest.data.toList.drop 45 = dktX0_cheapest_2 := dk_seg dksX0_cheapest_1 23 rfl rfl
theorem dX0_cheapest_0 : decode cX0_cheapest 0 = .ok (.iload_n 1, 1) := dk_27 (dk_at dksX0_cheapest_0 0 rfl rfl)
theorem dX0_cheapest_1 : decode cX0_cheapest 1 = .ok (.i2l, 1) := dk_133 (dk_at dksX0_cheapest_0 1 rfl rfl)
theorem dX0_cheapest_2 : decode cX0_cheapest 2 = .ok (.lconst 0, 1) := dk_9 (dk_at dksX0_cheapest_0 2 rfl rfl)
theorem dX0_cheapest_3 : decode cX0_cheapest 3 = .ok (.ldc2_w 12, 3) := dk_20 0 12 (dk_at dksX0_cheapest_0 3 rfl rfl)
theorem dX0_cheapest_6 : decode cX0_cheapest 6 = .ok (.invokestatic 14, 3) := dk_184 0 14 (dk_at dksX0_cheapest_0 6 rfl rfl)
theorem dX0_cheapest_9 : decode cX0_cheapest 9 = .ok (.ifCond .ne 6, 3) := dk_154 0 6 (dk_at dksX0_cheapest_0 9 rfl rfl)
theorem dX0_cheapest_12 : decode cX0_cheapest 12 = .ok (.bipush (-2), 2) := dk_16 254 (dk_at dksX0_cheapest_0 12 rfl rfl)
theorem dX0_cheapest_14 : decode cX0_cheapest 14 = .ok (.ireturn, 1) := dk_172 (dk_at dksX0_cheapest_0 14 rfl rfl)
theorem dX0_cheapest_15 : decode cX0_cheapest 15 = .ok (.aload_n 0, 1) := dk_42 (dk_at dksX0_cheapest_0 15 rfl rfl)
theorem dX0_cheapest_16 : decode cX0_cheapest 16 = .ok (.iload_n 1, 1) := dk_27 (dk_at dksX0_cheapest_0 16 rfl rfl)
theorem dX0_cheapest_17 : decode cX0_cheapest 17 = .ok (.iconst 2, 1) := dk_5 (dk_at dksX0_cheapest_0 17 rfl rfl)
theorem dX0_cheapest_18 : decode cX0_cheapest 18 = .ok (.if_icmp .ge 7, 3) := dk_162 0 7 (dk_at dksX0_cheapest_0 18 rfl rfl)
theorem dX0_cheapest_21 : decode cX0_cheapest 21 = .ok (.iconst 1, 1) := dk_4 (dk_at dksX0_cheapest_0 21 rfl rfl)
theorem dX0_cheapest_22 : decode cX0_cheapest 22 = .ok (.goto 4, 3) := dk_167 0 4 (dk_at dksX0_cheapest_1 0 rfl rfl)
theorem dX0_cheapest_25 : decode cX0_cheapest 25 = .ok (.iconst 2, 1) := dk_5 (dk_at dksX0_cheapest_1 3 rfl rfl)
theorem dX0_cheapest_26 : decode cX0_cheapest 26 = .ok (.invokevirtual 431, 3) := dk_182 1 175 (dk_at dksX0_cheapest_1 4 rfl rfl)
theorem dX0_cheapest_29 : decode cX0_cheapest 29 = .ok (.aload_n 0, 1) := dk_42 (dk_at dksX0_cheapest_1 7 rfl rfl)
theorem dX0_cheapest_30 : decode cX0_cheapest 30 = .ok (.getfield 405, 3) := dk_180 1 149 (dk_at dksX0_cheapest_1 8 rfl rfl)
theorem dX0_cheapest_33 : decode cX0_cheapest 33 = .ok (.ifCond .ne 5, 3) := dk_154 0 5 (dk_at dksX0_cheapest_1 11 rfl rfl)
theorem dX0_cheapest_36 : decode cX0_cheapest 36 = .ok (.iconst (-1), 1) := dk_2 (dk_at dksX0_cheapest_1 14 rfl rfl)
theorem dX0_cheapest_37 : decode cX0_cheapest 37 = .ok (.ireturn, 1) := dk_172 (dk_at dksX0_cheapest_1 15 rfl rfl)
theorem dX0_cheapest_38 : decode cX0_cheapest 38 = .ok (.iload_n 1, 1) := dk_27 (dk_at dksX0_cheapest_1 16 rfl rfl)
theorem dX0_cheapest_39 : decode cX0_cheapest 39 = .ok (.iconst 2, 1) := dk_5 (dk_at dksX0_cheapest_1 17 rfl rfl)
theorem dX0_cheapest_40 : decode cX0_cheapest 40 = .ok (.irem, 1) := dk_112 (dk_at dksX0_cheapest_1 18 rfl rfl)
theorem dX0_cheapest_41 : decode cX0_cheapest 41 = .ok (.ifCond .ne 10, 3) := dk_154 0 10 (dk_at dksX0_cheapest_1 19 rfl rfl)
theorem dX0_cheapest_44 : decode cX0_cheapest 44 = .ok (.aload_n 0, 1) := dk_42 (dk_at dksX0_cheapest_1 22 rfl rfl)
theorem dX0_cheapest_45 : decode cX0_cheapest 45 = .ok (.getfield 411, 3) := dk_180 1 155 (dk_at dksX0_cheapest_2 0 rfl rfl)
theorem dX0_cheapest_48 : decode cX0_cheapest 48 = .ok (.goto 20, 3) := dk_167 0 20 (dk_at dksX0_cheapest_2 3 rfl rfl)
theorem dX0_cheapest_51 : decode cX0_cheapest 51 = .ok (.iload_n 1, 1) := dk_27 (dk_at dksX0_cheapest_2 6 rfl rfl)
theorem dX0_cheapest_52 : decode cX0_cheapest 52 = .ok (.iconst 1, 1) := dk_4 (dk_at dksX0_cheapest_2 7 rfl rfl)
theorem dX0_cheapest_53 : decode cX0_cheapest 53 = .ok (.if_icmp .ne 11, 3) := dk_160 0 11 (dk_at dksX0_cheapest_2 8 rfl rfl)
theorem dX0_cheapest_56 : decode cX0_cheapest 56 = .ok (.aload_n 0, 1) := dk_42 (dk_at dksX0_cheapest_2 11 rfl rfl)
theorem dX0_cheapest_57 : decode cX0_cheapest 57 = .ok (.getfield 408, 3) := dk_180 1 152 (dk_at dksX0_cheapest_2 12 rfl rfl)
theorem dX0_cheapest_60 : decode cX0_cheapest 60 = .ok (.ineg, 1) := dk_116 (dk_at dksX0_cheapest_2 15 rfl rfl)
theorem dX0_cheapest_61 : decode cX0_cheapest 61 = .ok (.goto 7, 3) := dk_167 0 7 (dk_at dksX0_cheapest_2 16 rfl rfl)
theorem dX0_cheapest_64 : decode cX0_cheapest 64 = .ok (.aload_n 0, 1) := dk_42 (dk_at dksX0_cheapest_2 19 rfl rfl)
theorem dX0_cheapest_65 : decode cX0_cheapest 65 = .ok (.getfield 408, 3) := dk_180 1 152 (dk_at dksX0_cheapest_2 20 rfl rfl)
theorem dX0_cheapest_68 : decode cX0_cheapest 68 = .ok (.ireturn, 1) := dk_172 (dk_at dksX0_cheapest_2 23 rfl rfl)
abbrev cX0_settle : ByteArray := prog_1_method_61_code
def yX0_settle : MethodName := ⟨RX0, "settle", "()I"⟩
def dkwX0_settle_3 : List UInt8 := [132, 2, 255, 167, 255, 222, 42, 180, 1, 152, 172]
abbrev dktX0_settle_3 : List UInt8 := dkwX0_settle_3 ++ []
def dkwX0_settle_2 : List UInt8 := [158, 0, 18, 42, 180, 0, 49, 27, 16, 10, 112, 4, 100, 50, 28, 181, 0, 95, 27, 16, 10, 108, 60]
abbrev dktX0_settle_2 : List UInt8 := dkwX0_settle_2 ++ dktX0_settle_3
def dkwX0_settle_1 : List UInt8 := [181, 0, 95, 132, 1, 1, 167, 255, 235, 42, 180, 1, 155, 60, 6, 61, 28, 155, 0, 36, 27, 16, 10, 112]
abbrev dktX0_settle_1 : List UInt8 := dkwX0_settle_1 ++ dktX0_settle_2
def dkwX0_settle_0 : List UInt8 := [42, 3, 182, 1, 175, 3, 60, 27, 42, 180, 0, 18, 162, 0, 19, 42, 180, 0, 49, 27, 50, 2]
abbrev dktX0_settle_0 : List UInt8 := dkwX0_settle_0 ++ dktX0_settle_1
theorem dksX0_settle_0 : cX0_settle.data.toList.drop 0 = dktX0_settle_0 := by decide +kernel
theorem dksX0_settle_1 : cX0_settle.data.toList.drop 22 = dktX0_settle_1 := dk_seg dksX0_settle_0 22 rfl rfl
theorem dksX0_settle_2 : cX0_settle.data.toList.drop 46 = dktX0_settle_2 := dk_seg dksX0_settle_1 24 rfl rfl
theorem dksX0_settle_3 : cX0_settle.data.toList.drop 69 = dktX0_settle_3 := dk_seg dksX0_settle_2 23 rfl rfl
theorem dX0_settle_0 : decode cX0_settle 0 = .ok (.aload_n 0, 1) := dk_42 (dk_at dksX0_settle_0 0 rfl rfl)
theorem dX0_settle_1 : decode cX0_settle 1 = .ok (.iconst 0, 1) := dk_3 (dk_at dksX0_settle_0 1 rfl rfl)
theorem dX0_settle_2 : decode cX0_settle 2 = .ok (.invokevirtual 431, 3) := dk_182 1 175 (dk_at dksX0_settle_0 2 rfl rfl)
theorem dX0_settle_5 : decode cX0_settle 5 = .ok (.iconst 0, 1) := dk_3 (dk_at dksX0_settle_0 5 rfl rfl)
theorem dX0_settle_6 : decode cX0_settle 6 = .ok (.istore_n 1, 1) := dk_60 (dk_at dksX0_settle_0 6 rfl rfl)
theorem dX0_settle_7 : decode cX0_settle 7 = .ok (.iload_n 1, 1) := dk_27 (dk_at dksX0_settle_0 7 rfl rfl)
theorem dX0_settle_8 : decode cX0_settle 8 = .ok (.aload_n 0, 1) := dk_42 (dk_at dksX0_settle_0 8 rfl rfl)
theorem dX0_settle_9 : decode cX0_settle 9 = .ok (.getfield 18, 3) := dk_180 0 18 (dk_at dksX0_settle_0 9 rfl rfl)
theorem dX0_settle_12 : decode cX0_settle 12 = .ok (.if_icmp .ge 19, 3) := dk_162 0 19 (dk_at dksX0_settle_0 12 rfl rfl)
theorem dX0_settle_15 : decode cX0_settle 15 = .ok (.aload_n 0, 1) := dk_42 (dk_at dksX0_settle_0 15 rfl rfl)
theorem dX0_settle_16 : decode cX0_settle 16 = .ok (.getfield 49, 3) := dk_180 0 49 (dk_at dksX0_settle_0 16 rfl rfl)
theorem dX0_settle_19 : decode cX0_settle 19 = .ok (.iload_n 1, 1) := dk_27 (dk_at dksX0_settle_0 19 rfl rfl)
theorem dX0_settle_20 : decode cX0_settle 20 = .ok (.aaload, 1) := dk_50 (dk_at dksX0_settle_0 20 rfl rfl)
theorem dX0_settle_21 : decode cX0_settle 21 = .ok (.iconst (-1), 1) := dk_2 (dk_at dksX0_settle_0 21 rfl rfl)
theorem dX0_settle_22 : decode cX0_settle 22 = .ok (.putfield 95, 3) := dk_181 0 95 (dk_at dksX0_settle_1 0 rfl rfl)
theorem dX0_settle_25 : decode cX0_settle 25 = .ok (.iinc 1 1, 3) := dk_132 1 1 (dk_at dksX0_settle_1 3 rfl rfl)
theorem dX0_settle_28 : decode cX0_settle 28 = .ok (.goto (-21), 3) := dk_167 255 235 (dk_at dksX0_settle_1 6 rfl rfl)
theorem dX0_settle_31 : decode cX0_settle 31 = .ok (.aload_n 0, 1) := dk_42 (dk_at dksX0_settle_1 9 rfl rfl)
theorem dX0_settle_32 : decode cX0_settle 32 = .ok (.getfield 411, 3) := dk_180 1 155 (dk_at dksX0_settle_1 10 rfl rfl)
theorem dX0_settle_35 : decode cX0_settle 35 = .ok (.istore_n 1, 1) := dk_60 (dk_at dksX0_settle_1 13 rfl rfl)
theorem dX0_settle_36 : decode cX0_settle 36 = .ok (.iconst 3, 1) := dk_6 (dk_at dksX0_settle_1 14 rfl rfl)
theorem dX0_settle_37 : decode cX0_settle 37 = .ok (.istore_n 2, 1) := dk_61 (dk_at dksX0_settle_1 15 rfl rfl)
theorem dX0_settle_38 : decode cX0_settle 38 = .ok (.iload_n 2, 1) := dk_28 (dk_at dksX0_settle_1 16 rfl rfl)
theorem dX0_settle_39 : decode cX0_settle 39 = .ok (.ifCond .lt 36, 3) := dk_155 0 36 (dk_at dksX0_settle_1 17 rfl rfl)
theorem dX0_settle_42 : decode cX0_settle 42 = .ok (.iload_n 1, 1) := dk_27 (dk_at dksX0_settle_1 20 rfl rfl)
theorem dX0_settle_43 : decode cX0_settle 43 = .ok (.bipush 10, 2) := dk_16 10 (dk_at dksX0_settle_1 21 rfl rfl)
theorem dX0_settle_45 : decode cX0_settle 45 = .ok (.irem, 1) := dk_112 (dk_at dksX0_settle_1 23 rfl rfl)
theorem dX0_settle_46 : decode cX0_settle 46 = .ok (.ifCond .le 18, 3) := dk_158 0 18 (dk_at dksX0_settle_2 0 rfl rfl)
theorem dX0_settle_49 : decode cX0_settle 49 = .ok (.aload_n 0, 1) := dk_42 (dk_at dksX0_settle_2 3 rfl rfl)
theorem dX0_settle_50 : decode cX0_settle 50 = .ok (.getfield 49, 3) := dk_180 0 49 (dk_at dksX0_settle_2 4 rfl rfl)
theorem dX0_settle_53 : decode cX0_settle 53 = .ok (.iload_n 1, 1) := dk_27 (dk_at dksX0_settle_2 7 rfl rfl)
theorem dX0_settle_54 : decode cX0_settle 54 = .ok (.bipush 10, 2) := dk_16 10 (dk_at dksX0_settle_2 8 rfl rfl)
theorem dX0_settle_56 : decode cX0_settle 56 = .ok (.irem, 1) := dk_112 (dk_at dksX0_settle_2 10 rfl rfl)
theorem dX0_settle_57 : decode cX0_settle 57 = .ok (.iconst 1, 1) := dk_4 (dk_at dksX0_settle_2 11 rfl rfl)
theorem dX0_settle_58 : decode cX0_settle 58 = .ok (.isub, 1) := dk_100 (dk_at dksX0_settle_2 12 rfl rfl)
theorem dX0_settle_59 : decode cX0_settle 59 = .ok (.aaload, 1) := dk_50 (dk_at dksX0_settle_2 13 rfl rfl)
theorem dX0_settle_60 : decode cX0_settle 60 = .ok (.iload_n 2, 1) := dk_28 (dk_at dksX0_settle_2 14 rfl rfl)
theorem dX0_settle_61 : decode cX0_settle 61 = .ok (.putfield 95, 3) := dk_181 0 95 (dk_at dksX0_settle_2 15 rfl rfl)
theorem dX0_settle_64 : decode cX0_settle 64 = .ok (.iload_n 1, 1) := dk_27 (dk_at dksX0_settle_2 18 rfl rfl)
theorem dX0_settle_65 : decode cX0_settle 65 = .ok (.bipush 10, 2) := dk_16 10 (dk_at dksX0_settle_2 19 rfl rfl)
theorem dX0_settle_67 : decode cX0_settle 67 = .ok (.idiv, 1) := dk_108 (dk_at dksX0_settle_2 21 rfl rfl)
theorem dX0_settle_68 : decode cX0_settle 68 = .ok (.istore_n 1, 1) := dk_60 (dk_at dksX0_settle_2 22 rfl rfl)
theorem dX0_settle_69 : decode cX0_settle 69 = .ok (.iinc 2 (-1), 3) := dk_132 2 255 (dk_at dksX0_settle_3 0 rfl rfl)
theorem dX0_settle_72 : decode cX0_settle 72 = .ok (.goto (-34), 3) := dk_167 255 222 (dk_at dksX0_settle_3 3 rfl rfl)
theorem dX0_settle_75 : decode cX0_settle 75 = .ok (.aload_n 0, 1) := dk_42 (dk_at dksX0_settle_3 6 rfl rfl)
theorem dX0_settle_76 : decode cX0_settle 76 = .ok (.getfield 408, 3) := dk_180 1 152 (dk_at dksX0_settle_3 7 rfl rfl)
theorem dX0_settle_79 : decode cX0_settle 79 = .ok (.ireturn, 1) := dk_172 (dk_at dksX0_settle_3 10 rfl rfl)
abbrev cX0_turnOut : ByteArray := prog_1_method_63_code
def yX0_turnOut : MethodName := ⟨RX0, "turnOut", "(I)I"⟩
def dkwX0_turnOut_3 : List UInt8 := [29, 21, 6, 184, 0, 3, 62, 132, 4, 1, 167, 255, 201, 27, 154, 0, 7, 28, 167, 0, 4, 29, 172]
abbrev dktX0_turnOut_3 : List UInt8 := dkwX0_turnOut_3 ++ []
def dkwX0_turnOut_2 : List UInt8 := [167, 0, 9, 42, 21, 5, 182, 1, 183, 54, 6, 21, 6, 29, 162, 0, 8, 21, 5, 167, 0, 4, 28, 61]
abbrev dktX0_turnOut_2 : List UInt8 := dkwX0_turnOut_2 ++ dktX0_turnOut_3
def dkwX0_turnOut_1 : List UInt8 := [54, 4, 21, 4, 7, 162, 0, 55, 42, 21, 4, 182, 0, 102, 54, 5, 21, 5, 2, 160, 0, 7, 29]
abbrev dktX0_turnOut_1 : List UInt8 := dkwX0_turnOut_1 ++ dktX0_turnOut_2
def dkwX0_turnOut_0 : List UInt8 := [27, 133, 9, 10, 184, 0, 14, 154, 0, 6, 16, 254, 172, 2, 61, 42, 182, 1, 139, 184, 1, 178, 62, 3]
abbrev dktX0_turnOut_0 : List UInt8 := dkwX0_turnOut_0 ++ dktX0_turnOut_1
theorem dksX0_turnOut_0 : cX0_turnOut.data.toList.drop 0 = dktX0_turnOut_0 := by decide +kernel
theorem dksX0_turnOut_1 : cX0_turnOut.data.toList.drop 24 = dktX0_turnOut_1 := dk_seg dksX0_turnOut_0 24 rfl rfl
theorem dksX0_turnOut_2 : cX0_turnOut.data.toList.drop 47 = dktX0_turnOut_2 := dk_seg dksX0_turnOut_1 23 rfl rfl
theorem dksX0_turnOut_3 : cX0_turnOut.data.toList.drop 71 = dktX0_turnOut_3 := dk_seg dksX0_turnOut_2 24 rfl rfl
theorem dX0_turnOut_0 : decode cX0_turnOut 0 = .ok (.iload_n 1, 1) := dk_27 (dk_at dksX0_turnOut_0 0 rfl rfl)
theorem dX0_turnOut_1 : decode cX0_turnOut 1 = .ok (.i2l, 1) := dk_133 (dk_at dksX0_turnOut_0 1 rfl rfl)
theorem dX0_turnOut_2 : decode cX0_turnOut 2 = .ok (.lconst 0, 1) := dk_9 (dk_at dksX0_turnOut_0 2 rfl rfl)
theorem dX0_turnOut_3 : decode cX0_turnOut 3 = .ok (.lconst 1, 1) := dk_10 (dk_at dksX0_turnOut_0 3 rfl rfl)
theorem dX0_turnOut_4 : decode cX0_turnOut 4 = .ok (.invokestatic 14, 3) := dk_184 0 14 (dk_at dksX0_turnOut_0 4 rfl rfl)
theorem dX0_turnOut_7 : decode cX0_turnOut 7 = .ok (.ifCond .ne 6, 3) := dk_154 0 6 (dk_at dksX0_turnOut_0 7 rfl rfl)
theorem dX0_turnOut_10 : decode cX0_turnOut 10 = .ok (.bipush (-2), 2) := dk_16 254 (dk_at dksX0_turnOut_0 10 rfl rfl)
theorem dX0_turnOut_12 : decode cX0_turnOut 12 = .ok (.ireturn, 1) := dk_172 (dk_at dksX0_turnOut_0 12 rfl rfl)
theorem dX0_turnOut_13 : decode cX0_turnOut 13 = .ok (.iconst (-1), 1) := dk_2 (dk_at dksX0_turnOut_0 13 rfl rfl)
theorem dX0_turnOut_14 : decode cX0_turnOut 14 = .ok (.istore_n 2, 1) := dk_61 (dk_at dksX0_turnOut_0 14 rfl rfl)
theorem dX0_turnOut_15 : decode cX0_turnOut 15 = .ok (.aload_n 0, 1) := dk_42 (dk_at dksX0_turnOut_0 15 rfl rfl)
theorem dX0_turnOut_16 : decode cX0_turnOut 16 = .ok (.invokevirtual 395, 3) := dk_182 1 139 (dk_at dksX0_turnOut_0 16 rfl rfl)
theorem dX0_turnOut_19 : decode cX0_turnOut 19 = .ok (.invokestatic 434, 3) := dk_184 1 178 (dk_at dksX0_turnOut_0 19 rfl rfl)
theorem dX0_turnOut_22 : decode cX0_turnOut 22 = .ok (.istore_n 3, 1) := dk_62 (dk_at dksX0_turnOut_0 22 rfl rfl)
theorem dX0_turnOut_23 : decode cX0_turnOut 23 = .ok (.iconst 0, 1) := dk_3 (dk_at dksX0_turnOut_0 23 rfl rfl)
theorem dX0_turnOut_24 : decode cX0_turnOut 24 = .ok (.istore 4, 2) := dk_54 4 (dk_at dksX0_turnOut_1 0 rfl rfl)
theorem dX0_turnOut_26 : decode cX0_turnOut 26 = .ok (.iload 4, 2) := dk_21 4 (dk_at dksX0_turnOut_1 2 rfl rfl)
theorem dX0_turnOut_28 : decode cX0_turnOut 28 = .ok (.iconst 4, 1) := dk_7 (dk_at dksX0_turnOut_1 4 rfl rfl)
theorem dX0_turnOut_29 : decode cX0_turnOut 29 = .ok (.if_icmp .ge 55, 3) := dk_162 0 55 (dk_at dksX0_turnOut_1 5 rfl rfl)
theorem dX0_turnOut_32 : decode cX0_turnOut 32 = .ok (.aload_n 0, 1) := dk_42 (dk_at dksX0_turnOut_1 8 rfl rfl)
theorem dX0_turnOut_33 : decode cX0_turnOut 33 = .ok (.iload 4, 2) := dk_21 4 (dk_at dksX0_turnOut_1 9 rfl rfl)
theorem dX0_turnOut_35 : decode cX0_turnOut 35 = .ok (.invokevirtual 102, 3) := dk_182 0 102 (dk_at dksX0_turnOut_1 11 rfl rfl)
theorem dX0_turnOut_38 : decode cX0_turnOut 38 = .ok (.istore 5, 2) := dk_54 5 (dk_at dksX0_turnOut_1 14 rfl rfl)
theorem dX0_turnOut_40 : decode cX0_turnOut 40 = .ok (.iload 5, 2) := dk_21 5 (dk_at dksX0_turnOut_1 16 rfl rfl)
theorem dX0_turnOut_42 : decode cX0_turnOut 42 = .ok (.iconst (-1), 1) := dk_2 (dk_at dksX0_turnOut_1 18 rfl rfl)
theorem dX0_turnOut_43 : decode cX0_turnOut 43 = .ok (.if_icmp .ne 7, 3) := dk_160 0 7 (dk_at dksX0_turnOut_1 19 rfl rfl)
theorem dX0_turnOut_46 : decode cX0_turnOut 46 = .ok (.iload_n 3, 1) := dk_29 (dk_at dksX0_turnOut_1 22 rfl rfl)
theorem dX0_turnOut_47 : decode cX0_turnOut 47 = .ok (.goto 9, 3) := dk_167 0 9 (dk_at dksX0_turnOut_2 0 rfl rfl)
theorem dX0_turnOut_50 : decode cX0_turnOut 50 = .ok (.aload_n 0, 1) := dk_42 (dk_at dksX0_turnOut_2 3 rfl rfl)
theorem dX0_turnOut_51 : decode cX0_turnOut 51 = .ok (.iload 5, 2) := dk_21 5 (dk_at dksX0_turnOut_2 4 rfl rfl)
theorem dX0_turnOut_53 : decode cX0_turnOut 53 = .ok (.invokevirtual 439, 3) := dk_182 1 183 (dk_at dksX0_turnOut_2 6 rfl rfl)
theorem dX0_turnOut_56 : decode cX0_turnOut 56 = .ok (.istore 6, 2) := dk_54 6 (dk_at dksX0_turnOut_2 9 rfl rfl)
theorem dX0_turnOut_58 : decode cX0_turnOut 58 = .ok (.iload 6, 2) := dk_21 6 (dk_at dksX0_turnOut_2 11 rfl rfl)
theorem dX0_turnOut_60 : decode cX0_turnOut 60 = .ok (.iload_n 3, 1) := dk_29 (dk_at dksX0_turnOut_2 13 rfl rfl)
theorem dX0_turnOut_61 : decode cX0_turnOut 61 = .ok (.if_icmp .ge 8, 3) := dk_162 0 8 (dk_at dksX0_turnOut_2 14 rfl rfl)
theorem dX0_turnOut_64 : decode cX0_turnOut 64 = .ok (.iload 5, 2) := dk_21 5 (dk_at dksX0_turnOut_2 17 rfl rfl)
theorem dX0_turnOut_66 : decode cX0_turnOut 66 = .ok (.goto 4, 3) := dk_167 0 4 (dk_at dksX0_turnOut_2 19 rfl rfl)
theorem dX0_turnOut_69 : decode cX0_turnOut 69 = .ok (.iload_n 2, 1) := dk_28 (dk_at dksX0_turnOut_2 22 rfl rfl)
theorem dX0_turnOut_70 : decode cX0_turnOut 70 = .ok (.istore_n 2, 1) := dk_61 (dk_at dksX0_turnOut_2 23 rfl rfl)
theorem dX0_turnOut_71 : decode cX0_turnOut 71 = .ok (.iload_n 3, 1) := dk_29 (dk_at dksX0_turnOut_3 0 rfl rfl)
theorem dX0_turnOut_72 : decode cX0_turnOut 72 = .ok (.iload 6, 2) := dk_21 6 (dk_at dksX0_turnOut_3 1 rfl rfl)
theorem dX0_turnOut_74 : decode cX0_turnOut 74 = .ok (.invokestatic 3, 3) := dk_184 0 3 (dk_at dksX0_turnOut_3 3 rfl rfl)
theorem dX0_turnOut_77 : decode cX0_turnOut 77 = .ok (.istore_n 3, 1) := dk_62 (dk_at dksX0_turnOut_3 6 rfl rfl)
theorem dX0_turnOut_78 : decode cX0_turnOut 78 = .ok (.iinc 4 1, 3) := dk_132 4 1 (dk_at dksX0_turnOut_3 7 rfl rfl)
theorem dX0_turnOut_81 : decode cX0_turnOut 81 = .ok (.goto (-55), 3) := dk_167 255 201 (dk_at dksX0_turnOut_3 10 rfl rfl)
theorem dX0_turnOut_84 : decode cX0_turnOut 84 = .ok (.iload_n 1, 1) := dk_27 (dk_at dksX0_turnOut_3 13 rfl rfl)
theorem dX0_turnOut_85 : decode cX0_turnOut 85 = .ok (.ifCond .ne 7, 3) := dk_154 0 7 (dk_at dksX0_turnOut_3 14 rfl rfl)
theorem dX0_turnOut_88 : decode cX0_turnOut 88 = .ok (.iload_n 2, 1) := dk_28 (dk_at dksX0_turnOut_3 17 rfl rfl)
theorem dX0_turnOut_89 : decode cX0_turnOut 89 = .ok (.goto 4, 3) := dk_167 0 4 (dk_at dksX0_turnOut_3 18 rfl rfl)
theorem dX0_turnOut_92 : decode cX0_turnOut 92 = .ok (.iload_n 3, 1) := dk_29 (dk_at dksX0_turnOut_3 21 rfl rfl)
theorem dX0_turnOut_93 : decode cX0_turnOut 93 = .ok (.ireturn, 1) := dk_172 (dk_at dksX0_turnOut_3 22 rfl rfl)
abbrev cX0_quarrelsWithout : ByteArray := prog_1_method_62_code
def yX0_quarrelsWithout : MethodName := ⟨RX0, "quarrelsWithout", "(I)I"⟩
def dkwX0_quarrelsWithout_2 : List UInt8 := [28, 181, 0, 95, 25, 4, 191]
abbrev dktX0_quarrelsWithout_2 : List UInt8 := dkwX0_quarrelsWithout_2 ++ []
def dkwX0_quarrelsWithout_1 : List UInt8 := [184, 1, 178, 62, 42, 180, 0, 49, 27, 50, 28, 181, 0, 95, 29, 172, 58, 4, 42, 180, 0, 49, 27, 50]
abbrev dktX0_quarrelsWithout_1 : List UInt8 := dkwX0_quarrelsWithout_1 ++ dktX0_quarrelsWithout_2
def dkwX0_quarrelsWithout_0 : List UInt8 := [42, 180, 0, 49, 27, 50, 180, 0, 95, 61, 42, 180, 0, 49, 27, 50, 2, 181, 0, 95, 42, 182, 1, 139]
abbrev dktX0_quarrelsWithout_0 : List UInt8 := dkwX0_quarrelsWithout_0 ++ dktX0_quarrelsWithout_1
theorem dksX0_quarrelsWithout_0 : cX0_quarrelsWithout.data.toList.drop 0 = dktX0_quarrelsWithout_0 := by decide +kernel
theorem dksX0_quarrelsWithout_1 : cX0_quarrelsWithout.data.toList.drop 24 = dktX0_quarrelsWithout_1 := dk_seg dksX0_quarrelsWithout_0 24 rfl rfl
theorem dksX0_quarrelsWithout_2 : cX0_quarrelsWithout.data.toList.drop 48 = dktX0_quarrelsWithout_2 := dk_seg dksX0_quarrelsWithout_1 24 rfl rfl
theorem dX0_quarrelsWithout_0 : decode cX0_quarrelsWithout 0 = .ok (.aload_n 0, 1) := dk_42 (dk_at dksX0_quarrelsWithout_0 0 rfl rfl)
theorem dX0_quarrelsWithout_1 : decode cX0_quarrelsWithout 1 = .ok (.getfield 49, 3) := dk_180 0 49 (dk_at dksX0_quarrelsWithout_0 1 rfl rfl)
theorem dX0_quarrelsWithout_4 : decode cX0_quarrelsWithout 4 = .ok (.iload_n 1, 1) := dk_27 (dk_at dksX0_quarrelsWithout_0 4 rfl rfl)
theorem dX0_quarrelsWithout_5 : decode cX0_quarrelsWithout 5 = .ok (.aaload, 1) := dk_50 (dk_at dksX0_quarrelsWithout_0 5 rfl rfl)
theorem dX0_quarrelsWithout_6 : decode cX0_quarrelsWithout 6 = .ok (.getfield 95, 3) := dk_180 0 95 (dk_at dksX0_quarrelsWithout_0 6 rfl rfl)
theorem dX0_quarrelsWithout_9 : decode cX0_quarrelsWithout 9 = .ok (.istore_n 2, 1) := dk_61 (dk_at dksX0_quarrelsWithout_0 9 rfl rfl)
theorem dX0_quarrelsWithout_10 : decode cX0_quarrelsWithout 10 = .ok (.aload_n 0, 1) := dk_42 (dk_at dksX0_quarrelsWithout_0 10 rfl rfl)
theorem dX0_quarrelsWithout_11 : decode cX0_quarrelsWithout 11 = .ok (.getfield 49, 3) := dk_180 0 49 (dk_at dksX0_quarrelsWithout_0 11 rfl rfl)
theorem dX0_quarrelsWithout_14 : decode cX0_quarrelsWithout 14 = .ok (.iload_n 1, 1) := dk_27 (dk_at dksX0_quarrelsWithout_0 14 rfl rfl)
theorem dX0_quarrelsWithout_15 : decode cX0_quarrelsWithout 15 = .ok (.aaload, 1) := dk_50 (dk_at dksX0_quarrelsWithout_0 15 rfl rfl)
theorem dX0_quarrelsWithout_16 : decode cX0_quarrelsWithout 16 = .ok (.iconst (-1), 1) := dk_2 (dk_at dksX0_quarrelsWithout_0 16 rfl rfl)
theorem dX0_quarrelsWithout_17 : decode cX0_quarrelsWithout 17 = .ok (.putfield 95, 3) := dk_181 0 95 (dk_at dksX0_quarrelsWithout_0 17 rfl rfl)
theorem dX0_quarrelsWithout_20 : decode cX0_quarrelsWithout 20 = .ok (.aload_n 0, 1) := dk_42 (dk_at dksX0_quarrelsWithout_0 20 rfl rfl)
theorem dX0_quarrelsWithout_21 : decode cX0_quarrelsWithout 21 = .ok (.invokevirtual 395, 3) := dk_182 1 139 (dk_at dksX0_quarrelsWithout_0 21 rfl rfl)
theorem dX0_quarrelsWithout_24 : decode cX0_quarrelsWithout 24 = .ok (.invokestatic 434, 3) := dk_184 1 178 (dk_at dksX0_quarrelsWithout_1 0 rfl rfl)
theorem dX0_quarrelsWithout_27 : decode cX0_quarrelsWithout 27 = .ok (.istore_n 3, 1) := dk_62 (dk_at dksX0_quarrelsWithout_1 3 rfl rfl)
theorem dX0_quarrelsWithout_28 : decode cX0_quarrelsWithout 28 = .ok (.aload_n 0, 1) := dk_42 (dk_at dksX0_quarrelsWithout_1 4 rfl rfl)
theorem dX0_quarrelsWithout_29 : decode cX0_quarrelsWithout 29 = .ok (.getfield 49, 3) := dk_180 0 49 (dk_at dksX0_quarrelsWithout_1 5 rfl rfl)
theorem dX0_quarrelsWithout_32 : decode cX0_quarrelsWithout 32 = .ok (.iload_n 1, 1) := dk_27 (dk_at dksX0_quarrelsWithout_1 8 rfl rfl)
theorem dX0_quarrelsWithout_33 : decode cX0_quarrelsWithout 33 = .ok (.aaload, 1) := dk_50 (dk_at dksX0_quarrelsWithout_1 9 rfl rfl)
theorem dX0_quarrelsWithout_34 : decode cX0_quarrelsWithout 34 = .ok (.iload_n 2, 1) := dk_28 (dk_at dksX0_quarrelsWithout_1 10 rfl rfl)
theorem dX0_quarrelsWithout_35 : decode cX0_quarrelsWithout 35 = .ok (.putfield 95, 3) := dk_181 0 95 (dk_at dksX0_quarrelsWithout_1 11 rfl rfl)
theorem dX0_quarrelsWithout_38 : decode cX0_quarrelsWithout 38 = .ok (.iload_n 3, 1) := dk_29 (dk_at dksX0_quarrelsWithout_1 14 rfl rfl)
theorem dX0_quarrelsWithout_39 : decode cX0_quarrelsWithout 39 = .ok (.ireturn, 1) := dk_172 (dk_at dksX0_quarrelsWithout_1 15 rfl rfl)
theorem dX0_quarrelsWithout_40 : decode cX0_quarrelsWithout 40 = .ok (.astore 4, 2) := dk_58 4 (dk_at dksX0_quarrelsWithout_1 16 rfl rfl)
theorem dX0_quarrelsWithout_42 : decode cX0_quarrelsWithout 42 = .ok (.aload_n 0, 1) := dk_42 (dk_at dksX0_quarrelsWithout_1 18 rfl rfl)
theorem dX0_quarrelsWithout_43 : decode cX0_quarrelsWithout 43 = .ok (.getfield 49, 3) := dk_180 0 49 (dk_at dksX0_quarrelsWithout_1 19 rfl rfl)
theorem dX0_quarrelsWithout_46 : decode cX0_quarrelsWithout 46 = .ok (.iload_n 1, 1) := dk_27 (dk_at dksX0_quarrelsWithout_1 22 rfl rfl)
theorem dX0_quarrelsWithout_47 : decode cX0_quarrelsWithout 47 = .ok (.aaload, 1) := dk_50 (dk_at dksX0_quarrelsWithout_1 23 rfl rfl)
theorem dX0_quarrelsWithout_48 : decode cX0_quarrelsWithout 48 = .ok (.iload_n 2, 1) := dk_28 (dk_at dksX0_quarrelsWithout_2 0 rfl rfl)
theorem dX0_quarrelsWithout_49 : decode cX0_quarrelsWithout 49 = .ok (.putfield 95, 3) := dk_181 0 95 (dk_at dksX0_quarrelsWithout_2 1 rfl rfl)
theorem dX0_quarrelsWithout_52 : decode cX0_quarrelsWithout 52 = .ok (.aload 4, 2) := dk_25 4 (dk_at dksX0_quarrelsWithout_2 4 rfl rfl)
theorem dX0_quarrelsWithout_54 : decode cX0_quarrelsWithout 54 = .ok (.athrow, 1) := dk_191 (dk_at dksX0_quarrelsWithout_2 6 rfl rfl)
abbrev cX0_swap : ByteArray := prog_1_method_66_code
def yX0_swap : MethodName := ⟨RX0, "swap", "(I)I"⟩
def dkwX0_swap_5 : List UInt8 := [167, 0, 4, 29, 172]
abbrev dktX0_swap_5 : List UInt8 := dkwX0_swap_5 ++ []
def dkwX0_swap_4 : List UInt8 := [132, 4, 1, 167, 255, 193, 27, 154, 0, 7, 28, 167, 0, 16, 28, 2, 160, 0, 10, 42, 182, 1, 133]
abbrev dktX0_swap_4 : List UInt8 := dkwX0_swap_4 ++ dktX0_swap_5
def dkwX0_swap_3 : List UInt8 := [21, 4, 104, 21, 5, 96, 167, 0, 4, 28, 61, 29, 21, 6, 184, 0, 9, 62, 132, 5, 1, 167, 255, 211]
abbrev dktX0_swap_3 : List UInt8 := dkwX0_swap_3 ++ dktX0_swap_4
def dkwX0_swap_2 : List UInt8 := [21, 5, 7, 162, 0, 45, 42, 21, 4, 21, 5, 182, 1, 189, 54, 6, 21, 6, 29, 164, 0, 14, 16, 10]
abbrev dktX0_swap_2 : List UInt8 := dkwX0_swap_2 ++ dktX0_swap_3
def dkwX0_swap_1 : List UInt8 := [182, 1, 133, 167, 0, 4, 2, 62, 3, 54, 4, 21, 4, 7, 162, 0, 63, 21, 4, 4, 96, 54, 5]
abbrev dktX0_swap_1 : List UInt8 := dkwX0_swap_1 ++ dktX0_swap_2
def dkwX0_swap_0 : List UInt8 := [27, 133, 9, 10, 184, 0, 14, 154, 0, 6, 16, 254, 172, 2, 61, 42, 182, 1, 139, 154, 0, 10, 42]
abbrev dktX0_swap_0 : List UInt8 := dkwX0_swap_0 ++ dktX0_swap_1
theorem dksX0_swap_0 : cX0_swap.data.toList.drop 0 = dktX0_swap_0 := by decide +kernel
theorem dksX0_swap_1 : cX0_swap.data.toList.drop 23 = dktX0_swap_1 := dk_seg dksX0_swap_0 23 rfl rfl
theorem dksX0_swap_2 : cX0_swap.data.toList.drop 46 = dktX0_swap_2 := dk_seg dksX0_swap_1 23 rfl rfl
theorem dksX0_swap_3 : cX0_swap.data.toList.drop 70 = dktX0_swap_3 := dk_seg dksX0_swap_2 24 rfl rfl
theorem dksX0_swap_4 : cX0_swap.data.toList.drop 94 = dktX0_swap_4 := dk_seg dksX0_swap_3 24 rfl rfl
theorem dksX0_swap_5 : cX0_swap.data.toList.drop 117 = dktX0_swap_5 := dk_seg dksX0_swap_4 23 rfl rfl
theorem dX0_swap_0 : decode cX0_swap 0 = .ok (.iload_n 1, 1) := dk_27 (dk_at dksX0_swap_0 0 rfl rfl)
theorem dX0_swap_1 : decode cX0_swap 1 = .ok (.i2l, 1) := dk_133 (dk_at dksX0_swap_0 1 rfl rfl)
theorem dX0_swap_2 : decode cX0_swap 2 = .ok (.lconst 0, 1) := dk_9 (dk_at dksX0_swap_0 2 rfl rfl)
theorem dX0_swap_3 : decode cX0_swap 3 = .ok (.lconst 1, 1) := dk_10 (dk_at dksX0_swap_0 3 rfl rfl)
theorem dX0_swap_4 : decode cX0_swap 4 = .ok (.invokestatic 14, 3) := dk_184 0 14 (dk_at dksX0_swap_0 4 rfl rfl)
theorem dX0_swap_7 : decode cX0_swap 7 = .ok (.ifCond .ne 6, 3) := dk_154 0 6 (dk_at dksX0_swap_0 7 rfl rfl)
theorem dX0_swap_10 : decode cX0_swap 10 = .ok (.bipush (-2), 2) := dk_16 254 (dk_at dksX0_swap_0 10 rfl rfl)
theorem dX0_swap_12 : decode cX0_swap 12 = .ok (.ireturn, 1) := dk_172 (dk_at dksX0_swap_0 12 rfl rfl)
theorem dX0_swap_13 : decode cX0_swap 13 = .ok (.iconst (-1), 1) := dk_2 (dk_at dksX0_swap_0 13 rfl rfl)
theorem dX0_swap_14 : decode cX0_swap 14 = .ok (.istore_n 2, 1) := dk_61 (dk_at dksX0_swap_0 14 rfl rfl)
theorem dX0_swap_15 : decode cX0_swap 15 = .ok (.aload_n 0, 1) := dk_42 (dk_at dksX0_swap_0 15 rfl rfl)
theorem dX0_swap_16 : decode cX0_swap 16 = .ok (.invokevirtual 395, 3) := dk_182 1 139 (dk_at dksX0_swap_0 16 rfl rfl)
theorem dX0_swap_19 : decode cX0_swap 19 = .ok (.ifCond .ne 10, 3) := dk_154 0 10 (dk_at dksX0_swap_0 19 rfl rfl)
theorem dX0_swap_22 : decode cX0_swap 22 = .ok (.aload_n 0, 1) := dk_42 (dk_at dksX0_swap_0 22 rfl rfl)
theorem dX0_swap_23 : decode cX0_swap 23 = .ok (.invokevirtual 389, 3) := dk_182 1 133 (dk_at dksX0_swap_1 0 rfl rfl)
theorem dX0_swap_26 : decode cX0_swap 26 = .ok (.goto 4, 3) := dk_167 0 4 (dk_at dksX0_swap_1 3 rfl rfl)
theorem dX0_swap_29 : decode cX0_swap 29 = .ok (.iconst (-1), 1) := dk_2 (dk_at dksX0_swap_1 6 rfl rfl)
theorem dX0_swap_30 : decode cX0_swap 30 = .ok (.istore_n 3, 1) := dk_62 (dk_at dksX0_swap_1 7 rfl rfl)
theorem dX0_swap_31 : decode cX0_swap 31 = .ok (.iconst 0, 1) := dk_3 (dk_at dksX0_swap_1 8 rfl rfl)
theorem dX0_swap_32 : decode cX0_swap 32 = .ok (.istore 4, 2) := dk_54 4 (dk_at dksX0_swap_1 9 rfl rfl)
theorem dX0_swap_34 : decode cX0_swap 34 = .ok (.iload 4, 2) := dk_21 4 (dk_at dksX0_swap_1 11 rfl rfl)
theorem dX0_swap_36 : decode cX0_swap 36 = .ok (.iconst 4, 1) := dk_7 (dk_at dksX0_swap_1 13 rfl rfl)
theorem dX0_swap_37 : decode cX0_swap 37 = .ok (.if_icmp .ge 63, 3) := dk_162 0 63 (dk_at dksX0_swap_1 14 rfl rfl)
theorem dX0_swap_40 : decode cX0_swap 40 = .ok (.iload 4, 2) := dk_21 4 (dk_at dksX0_swap_1 17 rfl rfl)
theorem dX0_swap_42 : decode cX0_swap 42 = .ok (.iconst 1, 1) := dk_4 (dk_at dksX0_swap_1 19 rfl rfl)
theorem dX0_swap_43 : decode cX0_swap 43 = .ok (.iadd, 1) := dk_96 (dk_at dksX0_swap_1 20 rfl rfl)
theorem dX0_swap_44 : decode cX0_swap 44 = .ok (.istore 5, 2) := dk_54 5 (dk_at dksX0_swap_1 21 rfl rfl)
theorem dX0_swap_46 : decode cX0_swap 46 = .ok (.iload 5, 2) := dk_21 5 (dk_at dksX0_swap_2 0 rfl rfl)
theorem dX0_swap_48 : decode cX0_swap 48 = .ok (.iconst 4, 1) := dk_7 (dk_at dksX0_swap_2 2 rfl rfl)
theorem dX0_swap_49 : decode cX0_swap 49 = .ok (.if_icmp .ge 45, 3) := dk_162 0 45 (dk_at dksX0_swap_2 3 rfl rfl)
theorem dX0_swap_52 : decode cX0_swap 52 = .ok (.aload_n 0, 1) := dk_42 (dk_at dksX0_swap_2 6 rfl rfl)
theorem dX0_swap_53 : decode cX0_swap 53 = .ok (.iload 4, 2) := dk_21 4 (dk_at dksX0_swap_2 7 rfl rfl)
theorem dX0_swap_55 : decode cX0_swap 55 = .ok (.iload 5, 2) := dk_21 5 (dk_at dksX0_swap_2 9 rfl rfl)
theorem dX0_swap_57 : decode cX0_swap 57 = .ok (.invokevirtual 445, 3) := dk_182 1 189 (dk_at dksX0_swap_2 11 rfl rfl)
theorem dX0_swap_60 : decode cX0_swap 60 = .ok (.istore 6, 2) := dk_54 6 (dk_at dksX0_swap_2 14 rfl rfl)
theorem dX0_swap_62 : decode cX0_swap 62 = .ok (.iload 6, 2) := dk_21 6 (dk_at dksX0_swap_2 16 rfl rfl)
theorem dX0_swap_64 : decode cX0_swap 64 = .ok (.iload_n 3, 1) := dk_29 (dk_at dksX0_swap_2 18 rfl rfl)
theorem dX0_swap_65 : decode cX0_swap 65 = .ok (.if_icmp .le 14, 3) := dk_164 0 14 (dk_at dksX0_swap_2 19 rfl rfl)
theorem dX0_swap_68 : decode cX0_swap 68 = .ok (.bipush 10, 2) := dk_16 10 (dk_at dksX0_swap_2 22 rfl rfl)
theorem dX0_swap_70 : decode cX0_swap 70 = .ok (.iload 4, 2) := dk_21 4 (dk_at dksX0_swap_3 0 rfl rfl)
theorem dX0_swap_72 : decode cX0_swap 72 = .ok (.imul, 1) := dk_104 (dk_at dksX0_swap_3 2 rfl rfl)
theorem dX0_swap_73 : decode cX0_swap 73 = .ok (.iload 5, 2) := dk_21 5 (dk_at dksX0_swap_3 3 rfl rfl)
theorem dX0_swap_75 : decode cX0_swap 75 = .ok (.iadd, 1) := dk_96 (dk_at dksX0_swap_3 5 rfl rfl)
theorem dX0_swap_76 : decode cX0_swap 76 = .ok (.goto 4, 3) := dk_167 0 4 (dk_at dksX0_swap_3 6 rfl rfl)
theorem dX0_swap_79 : decode cX0_swap 79 = .ok (.iload_n 2, 1) := dk_28 (dk_at dksX0_swap_3 9 rfl rfl)
theorem dX0_swap_80 : decode cX0_swap 80 = .ok (.istore_n 2, 1) := dk_61 (dk_at dksX0_swap_3 10 rfl rfl)
theorem dX0_swap_81 : decode cX0_swap 81 = .ok (.iload_n 3, 1) := dk_29 (dk_at dksX0_swap_3 11 rfl rfl)
theorem dX0_swap_82 : decode cX0_swap 82 = .ok (.iload 6, 2) := dk_21 6 (dk_at dksX0_swap_3 12 rfl rfl)
theorem dX0_swap_84 : decode cX0_swap 84 = .ok (.invokestatic 9, 3) := dk_184 0 9 (dk_at dksX0_swap_3 14 rfl rfl)
theorem dX0_swap_87 : decode cX0_swap 87 = .ok (.istore_n 3, 1) := dk_62 (dk_at dksX0_swap_3 17 rfl rfl)
theorem dX0_swap_88 : decode cX0_swap 88 = .ok (.iinc 5 1, 3) := dk_132 5 1 (dk_at dksX0_swap_3 18 rfl rfl)
theorem dX0_swap_91 : decode cX0_swap 91 = .ok (.goto (-45), 3) := dk_167 255 211 (dk_at dksX0_swap_3 21 rfl rfl)
theorem dX0_swap_94 : decode cX0_swap 94 = .ok (.iinc 4 1, 3) := dk_132 4 1 (dk_at dksX0_swap_4 0 rfl rfl)
theorem dX0_swap_97 : decode cX0_swap 97 = .ok (.goto (-63), 3) := dk_167 255 193 (dk_at dksX0_swap_4 3 rfl rfl)
theorem dX0_swap_100 : decode cX0_swap 100 = .ok (.iload_n 1, 1) := dk_27 (dk_at dksX0_swap_4 6 rfl rfl)
theorem dX0_swap_101 : decode cX0_swap 101 = .ok (.ifCond .ne 7, 3) := dk_154 0 7 (dk_at dksX0_swap_4 7 rfl rfl)
theorem dX0_swap_104 : decode cX0_swap 104 = .ok (.iload_n 2, 1) := dk_28 (dk_at dksX0_swap_4 10 rfl rfl)
theorem dX0_swap_105 : decode cX0_swap 105 = .ok (.goto 16, 3) := dk_167 0 16 (dk_at dksX0_swap_4 11 rfl rfl)
theorem dX0_swap_108 : decode cX0_swap 108 = .ok (.iload_n 2, 1) := dk_28 (dk_at dksX0_swap_4 14 rfl rfl)
theorem dX0_swap_109 : decode cX0_swap 109 = .ok (.iconst (-1), 1) := dk_2 (dk_at dksX0_swap_4 15 rfl rfl)
theorem dX0_swap_110 : decode cX0_swap 110 = .ok (.if_icmp .ne 10, 3) := dk_160 0 10 (dk_at dksX0_swap_4 16 rfl rfl)
theorem dX0_swap_113 : decode cX0_swap 113 = .ok (.aload_n 0, 1) := dk_42 (dk_at dksX0_swap_4 19 rfl rfl)
theorem dX0_swap_114 : decode cX0_swap 114 = .ok (.invokevirtual 389, 3) := dk_182 1 133 (dk_at dksX0_swap_4 20 rfl rfl)
theorem dX0_swap_117 : decode cX0_swap 117 = .ok (.goto 4, 3) := dk_167 0 4 (dk_at dksX0_swap_5 0 rfl rfl)
theorem dX0_swap_120 : decode cX0_swap 120 = .ok (.iload_n 3, 1) := dk_29 (dk_at dksX0_swap_5 3 rfl rfl)
theorem dX0_swap_121 : decode cX0_swap 121 = .ok (.ireturn, 1) := dk_172 (dk_at dksX0_swap_5 4 rfl rfl)
abbrev cX0_brightChanged : ByteArray := prog_1_method_65_code
def yX0_brightChanged : MethodName := ⟨RX0, "brightChanged", "(II)I"⟩
def dkwX0_brightChanged_1 : List UInt8 := [28, 182, 1, 186, 29, 172, 58, 4, 42, 27, 28, 182, 1, 186, 25, 4, 191]
abbrev dktX0_brightChanged_1 : List UInt8 := dkwX0_brightChanged_1 ++ []
def dkwX0_brightChanged_0 : List UInt8 := [42, 27, 28, 182, 1, 186, 42, 182, 1, 139, 154, 0, 10, 42, 182, 1, 133, 167, 0, 4, 2, 62, 42, 27]
abbrev dktX0_brightChanged_0 : List UInt8 := dkwX0_brightChanged_0 ++ dktX0_brightChanged_1
theorem dksX0_brightChanged_0 : cX0_brightChanged.data.toList.drop 0 = dktX0_brightChanged_0 := by decide +kernel
theorem dksX0_brightChanged_1 : cX0_brightChanged.data.toList.drop 24 = dktX0_brightChanged_1 := dk_seg dksX0_brightChanged_0 24 rfl rfl
theorem dX0_brightChanged_0 : decode cX0_brightChanged 0 = .ok (.aload_n 0, 1) := dk_42 (dk_at dksX0_brightChanged_0 0 rfl rfl)
theorem dX0_brightChanged_1 : decode cX0_brightChanged 1 = .ok (.iload_n 1, 1) := dk_27 (dk_at dksX0_brightChanged_0 1 rfl rfl)
theorem dX0_brightChanged_2 : decode cX0_brightChanged 2 = .ok (.iload_n 2, 1) := dk_28 (dk_at dksX0_brightChanged_0 2 rfl rfl)
theorem dX0_brightChanged_3 : decode cX0_brightChanged 3 = .ok (.invokevirtual 442, 3) := dk_182 1 186 (dk_at dksX0_brightChanged_0 3 rfl rfl)
theorem dX0_brightChanged_6 : decode cX0_brightChanged 6 = .ok (.aload_n 0, 1) := dk_42 (dk_at dksX0_brightChanged_0 6 rfl rfl)
theorem dX0_brightChanged_7 : decode cX0_brightChanged 7 = .ok (.invokevirtual 395, 3) := dk_182 1 139 (dk_at dksX0_brightChanged_0 7 rfl rfl)
theorem dX0_brightChanged_10 : decode cX0_brightChanged 10 = .ok (.ifCond .ne 10, 3) := dk_154 0 10 (dk_at dksX0_brightChanged_0 10 rfl rfl)
theorem dX0_brightChanged_13 : decode cX0_brightChanged 13 = .ok (.aload_n 0, 1) := dk_42 (dk_at dksX0_brightChanged_0 13 rfl rfl)
theorem dX0_brightChanged_14 : decode cX0_brightChanged 14 = .ok (.invokevirtual 389, 3) := dk_182 1 133 (dk_at dksX0_brightChanged_0 14 rfl rfl)
theorem dX0_brightChanged_17 : decode cX0_brightChanged 17 = .ok (.goto 4, 3) := dk_167 0 4 (dk_at dksX0_brightChanged_0 17 rfl rfl)
theorem dX0_brightChanged_20 : decode cX0_brightChanged 20 = .ok (.iconst (-1), 1) := dk_2 (dk_at dksX0_brightChanged_0 20 rfl rfl)
theorem dX0_brightChanged_21 : decode cX0_brightChanged 21 = .ok (.istore_n 3, 1) := dk_62 (dk_at dksX0_brightChanged_0 21 rfl rfl)
theorem dX0_brightChanged_22 : decode cX0_brightChanged 22 = .ok (.aload_n 0, 1) := dk_42 (dk_at dksX0_brightChanged_0 22 rfl rfl)
theorem dX0_brightChanged_23 : decode cX0_brightChanged 23 = .ok (.iload_n 1, 1) := dk_27 (dk_at dksX0_brightChanged_0 23 rfl rfl)
theorem dX0_brightChanged_24 : decode cX0_brightChanged 24 = .ok (.iload_n 2, 1) := dk_28 (dk_at dksX0_brightChanged_1 0 rfl rfl)
theorem dX0_brightChanged_25 : decode cX0_brightChanged 25 = .ok (.invokevirtual 442, 3) := dk_182 1 186 (dk_at dksX0_brightChanged_1 1 rfl rfl)
theorem dX0_brightChanged_28 : decode cX0_brightChanged 28 = .ok (.iload_n 3, 1) := dk_29 (dk_at dksX0_brightChanged_1 4 rfl rfl)
theorem dX0_brightChanged_29 : decode cX0_brightChanged 29 = .ok (.ireturn, 1) := dk_172 (dk_at dksX0_brightChanged_1 5 rfl rfl)
theorem dX0_brightChanged_30 : decode cX0_brightChanged 30 = .ok (.astore 4, 2) := dk_58 4 (dk_at dksX0_brightChanged_1 6 rfl rfl)
theorem dX0_brightChanged_32 : decode cX0_brightChanged 32 = .ok (.aload_n 0, 1) := dk_42 (dk_at dksX0_brightChanged_1 8 rfl rfl)
theorem dX0_brightChanged_33 : decode cX0_brightChanged 33 = .ok (.iload_n 1, 1) := dk_27 (dk_at dksX0_brightChanged_1 9 rfl rfl)
theorem dX0_brightChanged_34 : decode cX0_brightChanged 34 = .ok (.iload_n 2, 1) := dk_28 (dk_at dksX0_brightChanged_1 10 rfl rfl)
theorem dX0_brightChanged_35 : decode cX0_brightChanged 35 = .ok (.invokevirtual 442, 3) := dk_182 1 186 (dk_at dksX0_brightChanged_1 11 rfl rfl)
theorem dX0_brightChanged_38 : decode cX0_brightChanged 38 = .ok (.aload 4, 2) := dk_25 4 (dk_at dksX0_brightChanged_1 14 rfl rfl)
theorem dX0_brightChanged_40 : decode cX0_brightChanged 40 = .ok (.athrow, 1) := dk_191 (dk_at dksX0_brightChanged_1 16 rfl rfl)
abbrev cX0_changes : ByteArray := prog_1_method_64_code
def yX0_changes : MethodName := ⟨RX0, "changes", "(II)V"⟩
def dkwX0_changes_1 : List UInt8 := [28, 181, 0, 95, 21, 4, 2, 159, 0, 14, 42, 180, 0, 49, 21, 4, 50, 27, 181, 0, 95, 177]
abbrev dktX0_changes_1 : List UInt8 := dkwX0_changes_1 ++ []
def dkwX0_changes_0 : List UInt8 := [42, 27, 182, 0, 102, 62, 42, 28, 182, 0, 102, 54, 4, 29, 2, 159, 0, 13, 42, 180, 0, 49, 29, 50]
abbrev dktX0_changes_0 : List UInt8 := dkwX0_changes_0 ++ dktX0_changes_1
theorem dksX0_changes_0 : cX0_changes.data.toList.drop 0 = dktX0_changes_0 := by decide +kernel
theorem dksX0_changes_1 : cX0_changes.data.toList.drop 24 = dktX0_changes_1 := dk_seg dksX0_changes_0 24 rfl rfl
theorem dX0_changes_0 : decode cX0_changes 0 = .ok (.aload_n 0, 1) := dk_42 (dk_at dksX0_changes_0 0 rfl rfl)
theorem dX0_changes_1 : decode cX0_changes 1 = .ok (.iload_n 1, 1) := dk_27 (dk_at dksX0_changes_0 1 rfl rfl)
theorem dX0_changes_2 : decode cX0_changes 2 = .ok (.invokevirtual 102, 3) := dk_182 0 102 (dk_at dksX0_changes_0 2 rfl rfl)
theorem dX0_changes_5 : decode cX0_changes 5 = .ok (.istore_n 3, 1) := dk_62 (dk_at dksX0_changes_0 5 rfl rfl)
theorem dX0_changes_6 : decode cX0_changes 6 = .ok (.aload_n 0, 1) := dk_42 (dk_at dksX0_changes_0 6 rfl rfl)
theorem dX0_changes_7 : decode cX0_changes 7 = .ok (.iload_n 2, 1) := dk_28 (dk_at dksX0_changes_0 7 rfl rfl)
theorem dX0_changes_8 : decode cX0_changes 8 = .ok (.invokevirtual 102, 3) := dk_182 0 102 (dk_at dksX0_changes_0 8 rfl rfl)
theorem dX0_changes_11 : decode cX0_changes 11 = .ok (.istore 4, 2) := dk_54 4 (dk_at dksX0_changes_0 11 rfl rfl)
theorem dX0_changes_13 : decode cX0_changes 13 = .ok (.iload_n 3, 1) := dk_29 (dk_at dksX0_changes_0 13 rfl rfl)
theorem dX0_changes_14 : decode cX0_changes 14 = .ok (.iconst (-1), 1) := dk_2 (dk_at dksX0_changes_0 14 rfl rfl)
theorem dX0_changes_15 : decode cX0_changes 15 = .ok (.if_icmp .eq 13, 3) := dk_159 0 13 (dk_at dksX0_changes_0 15 rfl rfl)
theorem dX0_changes_18 : decode cX0_changes 18 = .ok (.aload_n 0, 1) := dk_42 (dk_at dksX0_changes_0 18 rfl rfl)
theorem dX0_changes_19 : decode cX0_changes 19 = .ok (.getfield 49, 3) := dk_180 0 49 (dk_at dksX0_changes_0 19 rfl rfl)
theorem dX0_changes_22 : decode cX0_changes 22 = .ok (.iload_n 3, 1) := dk_29 (dk_at dksX0_changes_0 22 rfl rfl)
theorem dX0_changes_23 : decode cX0_changes 23 = .ok (.aaload, 1) := dk_50 (dk_at dksX0_changes_0 23 rfl rfl)
theorem dX0_changes_24 : decode cX0_changes 24 = .ok (.iload_n 2, 1) := dk_28 (dk_at dksX0_changes_1 0 rfl rfl)
theorem dX0_changes_25 : decode cX0_changes 25 = .ok (.putfield 95, 3) := dk_181 0 95 (dk_at dksX0_changes_1 1 rfl rfl)
theorem dX0_changes_28 : decode cX0_changes 28 = .ok (.iload 4, 2) := dk_21 4 (dk_at dksX0_changes_1 4 rfl rfl)
theorem dX0_changes_30 : decode cX0_changes 30 = .ok (.iconst (-1), 1) := dk_2 (dk_at dksX0_changes_1 6 rfl rfl)
theorem dX0_changes_31 : decode cX0_changes 31 = .ok (.if_icmp .eq 14, 3) := dk_159 0 14 (dk_at dksX0_changes_1 7 rfl rfl)
theorem dX0_changes_34 : decode cX0_changes 34 = .ok (.aload_n 0, 1) := dk_42 (dk_at dksX0_changes_1 10 rfl rfl)
theorem dX0_changes_35 : decode cX0_changes 35 = .ok (.getfield 49, 3) := dk_180 0 49 (dk_at dksX0_changes_1 11 rfl rfl)
theorem dX0_changes_38 : decode cX0_changes 38 = .ok (.iload 4, 2) := dk_21 4 (dk_at dksX0_changes_1 14 rfl rfl)
theorem dX0_changes_40 : decode cX0_changes 40 = .ok (.aaload, 1) := dk_50 (dk_at dksX0_changes_1 16 rfl rfl)
theorem dX0_changes_41 : decode cX0_changes 41 = .ok (.iload_n 1, 1) := dk_27 (dk_at dksX0_changes_1 17 rfl rfl)
theorem dX0_changes_42 : decode cX0_changes 42 = .ok (.putfield 95, 3) := dk_181 0 95 (dk_at dksX0_changes_1 18 rfl rfl)
theorem dX0_changes_45 : decode cX0_changes 45 = .ok (.return_, 1) := dk_177 (dk_at dksX0_changes_1 21 rfl rfl)
abbrev cX0_tells : ByteArray := prog_1_method_76_code
def yX0_tells : MethodName := ⟨RX0, "tells", "(III)I"⟩
def dkwX0_tells_4 : List UInt8 := [182, 1, 244, 167, 0, 18, 42, 25, 4, 29, 16, 10, 112, 28, 29, 16, 10, 108, 182, 1, 247, 172]
abbrev dktX0_tells_4 : List UInt8 := dkwX0_tells_4 ++ []
def dkwX0_tells_3 : List UInt8 := [184, 1, 192, 184, 1, 240, 16, 8, 159, 0, 6, 16, 254, 172, 29, 154, 0, 13, 42, 25, 4, 28]
abbrev dktX0_tells_3 : List UInt8 := dkwX0_tells_3 ++ dktX0_tells_4
def dkwX0_tells_2 : List UInt8 := [180, 1, 76, 27, 50, 180, 1, 236, 58, 4, 25, 4, 199, 0, 6, 16, 245, 172, 25, 4, 25, 4]
abbrev dktX0_tells_2 : List UInt8 := dkwX0_tells_2 ++ dktX0_tells_3
def dkwX0_tells_1 : List UInt8 := [20, 1, 234, 184, 0, 14, 153, 0, 14, 42, 29, 16, 10, 112, 182, 0, 65, 154, 0, 6, 16, 254, 172, 42]
abbrev dktX0_tells_1 : List UInt8 := dkwX0_tells_1 ++ dktX0_tells_2
def dkwX0_tells_0 : List UInt8 := [27, 184, 1, 229, 153, 0, 39, 28, 184, 0, 59, 153, 0, 32, 29, 153, 0, 31, 29, 133, 20, 1, 232]
abbrev dktX0_tells_0 : List UInt8 := dkwX0_tells_0 ++ dktX0_tells_1
theorem dksX0_tells_0 : cX0_tells.data.toList.drop 0 = dktX0_tells_0 := by decide +kernel
theorem dksX0_tells_1 : cX0_tells.data.toList.drop 23 = dktX0_tells_1 := dk_seg dksX0_tells_0 23 rfl rfl
theorem dksX0_tells_2 : cX0_tells.data.toList.drop 47 = dktX0_tells_2 := dk_seg dksX0_tells_1 24 rfl rfl
theorem dksX0_tells_3 : cX0_tells.data.toList.drop 69 = dktX0_tells_3 := dk_seg dksX0_tells_2 22 rfl rfl
theorem dksX0_tells_4 : cX0_tells.data.toList.drop 91 = dktX0_tells_4 := dk_seg dksX0_tells_3 22 rfl rfl
theorem dX0_tells_0 : decode cX0_tells 0 = .ok (.iload_n 1, 1) := dk_27 (dk_at dksX0_tells_0 0 rfl rfl)
theorem dX0_tells_1 : decode cX0_tells 1 = .ok (.invokestatic 485, 3) := dk_184 1 229 (dk_at dksX0_tells_0 1 rfl rfl)
theorem dX0_tells_4 : decode cX0_tells 4 = .ok (.ifCond .eq 39, 3) := dk_153 0 39 (dk_at dksX0_tells_0 4 rfl rfl)
theorem dX0_tells_7 : decode cX0_tells 7 = .ok (.iload_n 2, 1) := dk_28 (dk_at dksX0_tells_0 7 rfl rfl)
theorem dX0_tells_8 : decode cX0_tells 8 = .ok (.invokestatic 59, 3) := dk_184 0 59 (dk_at dksX0_tells_0 8 rfl rfl)
theorem dX0_tells_11 : decode cX0_tells 11 = .ok (.ifCond .eq 32, 3) := dk_153 0 32 (dk_at dksX0_tells_0 11 rfl rfl)
theorem dX0_tells_14 : decode cX0_tells 14 = .ok (.iload_n 3, 1) := dk_29 (dk_at dksX0_tells_0 14 rfl rfl)
theorem dX0_tells_15 : decode cX0_tells 15 = .ok (.ifCond .eq 31, 3) := dk_153 0 31 (dk_at dksX0_tells_0 15 rfl rfl)
theorem dX0_tells_18 : decode cX0_tells 18 = .ok (.iload_n 3, 1) := dk_29 (dk_at dksX0_tells_0 18 rfl rfl)
theorem dX0_tells_19 : decode cX0_tells 19 = .ok (.i2l, 1) := dk_133 (dk_at dksX0_tells_0 19 rfl rfl)
theorem dX0_tells_20 : decode cX0_tells 20 = .ok (.ldc2_w 488, 3) := dk_20 1 232 (dk_at dksX0_tells_0 20 rfl rfl)
theorem dX0_tells_23 : decode cX0_tells 23 = .ok (.ldc2_w 490, 3) := dk_20 1 234 (dk_at dksX0_tells_1 0 rfl rfl)
theorem dX0_tells_26 : decode cX0_tells 26 = .ok (.invokestatic 14, 3) := dk_184 0 14 (dk_at dksX0_tells_1 3 rfl rfl)
theorem dX0_tells_29 : decode cX0_tells 29 = .ok (.ifCond .eq 14, 3) := dk_153 0 14 (dk_at dksX0_tells_1 6 rfl rfl)
theorem dX0_tells_32 : decode cX0_tells 32 = .ok (.aload_n 0, 1) := dk_42 (dk_at dksX0_tells_1 9 rfl rfl)
theorem dX0_tells_33 : decode cX0_tells 33 = .ok (.iload_n 3, 1) := dk_29 (dk_at dksX0_tells_1 10 rfl rfl)
theorem dX0_tells_34 : decode cX0_tells 34 = .ok (.bipush 10, 2) := dk_16 10 (dk_at dksX0_tells_1 11 rfl rfl)
theorem dX0_tells_36 : decode cX0_tells 36 = .ok (.irem, 1) := dk_112 (dk_at dksX0_tells_1 13 rfl rfl)
theorem dX0_tells_37 : decode cX0_tells 37 = .ok (.invokevirtual 65, 3) := dk_182 0 65 (dk_at dksX0_tells_1 14 rfl rfl)
theorem dX0_tells_40 : decode cX0_tells 40 = .ok (.ifCond .ne 6, 3) := dk_154 0 6 (dk_at dksX0_tells_1 17 rfl rfl)
theorem dX0_tells_43 : decode cX0_tells 43 = .ok (.bipush (-2), 2) := dk_16 254 (dk_at dksX0_tells_1 20 rfl rfl)
theorem dX0_tells_45 : decode cX0_tells 45 = .ok (.ireturn, 1) := dk_172 (dk_at dksX0_tells_1 22 rfl rfl)
theorem dX0_tells_46 : decode cX0_tells 46 = .ok (.aload_n 0, 1) := dk_42 (dk_at dksX0_tells_1 23 rfl rfl)
theorem dX0_tells_47 : decode cX0_tells 47 = .ok (.getfield 332, 3) := dk_180 1 76 (dk_at dksX0_tells_2 0 rfl rfl)
theorem dX0_tells_50 : decode cX0_tells 50 = .ok (.iload_n 1, 1) := dk_27 (dk_at dksX0_tells_2 3 rfl rfl)
theorem dX0_tells_51 : decode cX0_tells 51 = .ok (.aaload, 1) := dk_50 (dk_at dksX0_tells_2 4 rfl rfl)
theorem dX0_tells_52 : decode cX0_tells 52 = .ok (.getfield 492, 3) := dk_180 1 236 (dk_at dksX0_tells_2 5 rfl rfl)
theorem dX0_tells_55 : decode cX0_tells 55 = .ok (.astore 4, 2) := dk_58 4 (dk_at dksX0_tells_2 8 rfl rfl)
theorem dX0_tells_57 : decode cX0_tells 57 = .ok (.aload 4, 2) := dk_25 4 (dk_at dksX0_tells_2 10 rfl rfl)
theorem dX0_tells_59 : decode cX0_tells 59 = .ok (.ifnonnull 6, 3) := dk_199 0 6 (dk_at dksX0_tells_2 12 rfl rfl)
theorem dX0_tells_62 : decode cX0_tells 62 = .ok (.bipush (-11), 2) := dk_16 245 (dk_at dksX0_tells_2 15 rfl rfl)
theorem dX0_tells_64 : decode cX0_tells 64 = .ok (.ireturn, 1) := dk_172 (dk_at dksX0_tells_2 17 rfl rfl)
theorem dX0_tells_65 : decode cX0_tells 65 = .ok (.aload 4, 2) := dk_25 4 (dk_at dksX0_tells_2 18 rfl rfl)
theorem dX0_tells_67 : decode cX0_tells 67 = .ok (.aload 4, 2) := dk_25 4 (dk_at dksX0_tells_2 20 rfl rfl)
theorem dX0_tells_69 : decode cX0_tells 69 = .ok (.invokestatic 448, 3) := dk_184 1 192 (dk_at dksX0_tells_3 0 rfl rfl)
theorem dX0_tells_72 : decode cX0_tells 72 = .ok (.invokestatic 496, 3) := dk_184 1 240 (dk_at dksX0_tells_3 3 rfl rfl)
theorem dX0_tells_75 : decode cX0_tells 75 = .ok (.bipush 8, 2) := dk_16 8 (dk_at dksX0_tells_3 6 rfl rfl)
theorem dX0_tells_77 : decode cX0_tells 77 = .ok (.if_icmp .eq 6, 3) := dk_159 0 6 (dk_at dksX0_tells_3 8 rfl rfl)
theorem dX0_tells_80 : decode cX0_tells 80 = .ok (.bipush (-2), 2) := dk_16 254 (dk_at dksX0_tells_3 11 rfl rfl)
theorem dX0_tells_82 : decode cX0_tells 82 = .ok (.ireturn, 1) := dk_172 (dk_at dksX0_tells_3 13 rfl rfl)
theorem dX0_tells_83 : decode cX0_tells 83 = .ok (.iload_n 3, 1) := dk_29 (dk_at dksX0_tells_3 14 rfl rfl)
theorem dX0_tells_84 : decode cX0_tells 84 = .ok (.ifCond .ne 13, 3) := dk_154 0 13 (dk_at dksX0_tells_3 15 rfl rfl)
theorem dX0_tells_87 : decode cX0_tells 87 = .ok (.aload_n 0, 1) := dk_42 (dk_at dksX0_tells_3 18 rfl rfl)
theorem dX0_tells_88 : decode cX0_tells 88 = .ok (.aload 4, 2) := dk_25 4 (dk_at dksX0_tells_3 19 rfl rfl)
theorem dX0_tells_90 : decode cX0_tells 90 = .ok (.iload_n 2, 1) := dk_28 (dk_at dksX0_tells_3 21 rfl rfl)
theorem dX0_tells_91 : decode cX0_tells 91 = .ok (.invokevirtual 500, 3) := dk_182 1 244 (dk_at dksX0_tells_4 0 rfl rfl)
theorem dX0_tells_94 : decode cX0_tells 94 = .ok (.goto 18, 3) := dk_167 0 18 (dk_at dksX0_tells_4 3 rfl rfl)
theorem dX0_tells_97 : decode cX0_tells 97 = .ok (.aload_n 0, 1) := dk_42 (dk_at dksX0_tells_4 6 rfl rfl)
theorem dX0_tells_98 : decode cX0_tells 98 = .ok (.aload 4, 2) := dk_25 4 (dk_at dksX0_tells_4 7 rfl rfl)
theorem dX0_tells_100 : decode cX0_tells 100 = .ok (.iload_n 3, 1) := dk_29 (dk_at dksX0_tells_4 9 rfl rfl)
theorem dX0_tells_101 : decode cX0_tells 101 = .ok (.bipush 10, 2) := dk_16 10 (dk_at dksX0_tells_4 10 rfl rfl)
theorem dX0_tells_103 : decode cX0_tells 103 = .ok (.irem, 1) := dk_112 (dk_at dksX0_tells_4 12 rfl rfl)
theorem dX0_tells_104 : decode cX0_tells 104 = .ok (.iload_n 2, 1) := dk_28 (dk_at dksX0_tells_4 13 rfl rfl)
theorem dX0_tells_105 : decode cX0_tells 105 = .ok (.iload_n 3, 1) := dk_29 (dk_at dksX0_tells_4 14 rfl rfl)
theorem dX0_tells_106 : decode cX0_tells 106 = .ok (.bipush 10, 2) := dk_16 10 (dk_at dksX0_tells_4 15 rfl rfl)
theorem dX0_tells_108 : decode cX0_tells 108 = .ok (.idiv, 1) := dk_108 (dk_at dksX0_tells_4 17 rfl rfl)
theorem dX0_tells_109 : decode cX0_tells 109 = .ok (.invokevirtual 503, 3) := dk_182 1 247 (dk_at dksX0_tells_4 18 rfl rfl)
theorem dX0_tells_112 : decode cX0_tells 112 = .ok (.ireturn, 1) := dk_172 (dk_at dksX0_tells_4 21 rfl rfl)
abbrev cX0_isSheet : ByteArray := prog_1_method_88_code
def yX0_isSheet : MethodName := ⟨RX0, "isSheet", "(I)Z"⟩
def dkwX0_isSheet_0 : List UInt8 := [26, 133, 9, 20, 0, 12, 184, 0, 14, 172]
abbrev dktX0_isSheet_0 : List UInt8 := dkwX0_isSheet_0 ++ []
theorem dksX0_isSheet_0 : cX0_isSheet.data.toList.drop 0 = dktX0_isSheet_0 := by decide +kernel
theorem dX0_isSheet_0 : decode cX0_isSheet 0 = .ok (.iload_n 0, 1) := dk_26 (dk_at dksX0_isSheet_0 0 rfl rfl)
theorem dX0_isSheet_1 : decode cX0_isSheet 1 = .ok (.i2l, 1) := dk_133 (dk_at dksX0_isSheet_0 1 rfl rfl)
theorem dX0_isSheet_2 : decode cX0_isSheet 2 = .ok (.lconst 0, 1) := dk_9 (dk_at dksX0_isSheet_0 2 rfl rfl)
theorem dX0_isSheet_3 : decode cX0_isSheet 3 = .ok (.ldc2_w 12, 3) := dk_20 0 12 (dk_at dksX0_isSheet_0 3 rfl rfl)
theorem dX0_isSheet_6 : decode cX0_isSheet 6 = .ok (.invokestatic 14, 3) := dk_184 0 14 (dk_at dksX0_isSheet_0 6 rfl rfl)
theorem dX0_isSheet_9 : decode cX0_isSheet 9 = .ok (.ireturn, 1) := dk_172 (dk_at dksX0_isSheet_0 9 rfl rfl)
abbrev cX0_sortOf : ByteArray := prog_1_method_96_code
def yX0_sortOf : MethodName := ⟨RX0, "sortOf", "(Ljava/lang/Object;)I"⟩
def dkwX0_sortOf_0 : List UInt8 := [42, 193, 2, 37, 153, 0, 7, 3, 167, 0, 15, 42, 193, 2, 41, 153, 0, 7, 4, 167, 0, 4, 5, 172]
abbrev dktX0_sortOf_0 : List UInt8 := dkwX0_sortOf_0 ++ []
theorem dksX0_sortOf_0 : cX0_sortOf.data.toList.drop 0 = dktX0_sortOf_0 := by decide +kernel
theorem dX0_sortOf_0 : decode cX0_sortOf 0 = .ok (.aload_n 0, 1) := dk_42 (dk_at dksX0_sortOf_0 0 rfl rfl)
theorem dX0_sortOf_1 : decode cX0_sortOf 1 = .ok (.instanceof 549, 3) := dk_193 2 37 (dk_at dksX0_sortOf_0 1 rfl rfl)
theorem dX0_sortOf_4 : decode cX0_sortOf 4 = .ok (.ifCond .eq 7, 3) := dk_153 0 7 (dk_at dksX0_sortOf_0 4 rfl rfl)
theorem dX0_sortOf_7 : decode cX0_sortOf 7 = .ok (.iconst 0, 1) := dk_3 (dk_at dksX0_sortOf_0 7 rfl rfl)
theorem dX0_sortOf_8 : decode cX0_sortOf 8 = .ok (.goto 15, 3) := dk_167 0 15 (dk_at dksX0_sortOf_0 8 rfl rfl)
theorem dX0_sortOf_11 : decode cX0_sortOf 11 = .ok (.aload_n 0, 1) := dk_42 (dk_at dksX0_sortOf_0 11 rfl rfl)
theorem dX0_sortOf_12 : decode cX0_sortOf 12 = .ok (.instanceof 553, 3) := dk_193 2 41 (dk_at dksX0_sortOf_0 12 rfl rfl)
theorem dX0_sortOf_15 : decode cX0_sortOf 15 = .ok (.ifCond .eq 7, 3) := dk_153 0 7 (dk_at dksX0_sortOf_0 15 rfl rfl)
theorem dX0_sortOf_18 : decode cX0_sortOf 18 = .ok (.iconst 1, 1) := dk_4 (dk_at dksX0_sortOf_0 18 rfl rfl)
theorem dX0_sortOf_19 : decode cX0_sortOf 19 = .ok (.goto 4, 3) := dk_167 0 4 (dk_at dksX0_sortOf_0 19 rfl rfl)
theorem dX0_sortOf_22 : decode cX0_sortOf 22 = .ok (.iconst 2, 1) := dk_5 (dk_at dksX0_sortOf_0 22 rfl rfl)
theorem dX0_sortOf_23 : decode cX0_sortOf 23 = .ok (.ireturn, 1) := dk_172 (dk_at dksX0_sortOf_0 23 rfl rfl)
abbrev cX0_lengthOf : ByteArray := prog_1_method_94_code
def yX0_lengthOf : MethodName := ⟨RX0, "lengthOf", "(Ljava/lang/Object;I)I"⟩
def dkwX0_lengthOf_2 : List UInt8 := [42, 192, 2, 37, 190, 172, 42, 192, 2, 41, 190, 172, 42, 192, 2, 43, 190, 172]
abbrev dktX0_lengthOf_2 : List UInt8 := dkwX0_lengthOf_2 ++ []
def dkwX0_lengthOf_1 : List UInt8 := [171, 0, 0, 0, 0, 0, 39, 0, 0, 0, 2, 0, 0, 0, 0, 0, 0, 0, 27, 0, 0, 0, 1, 0, 0, 0, 33]
abbrev dktX0_lengthOf_1 : List UInt8 := dkwX0_lengthOf_1 ++ dktX0_lengthOf_2
def dkwX0_lengthOf_0 : List UInt8 := [27]
abbrev dktX0_lengthOf_0 : List UInt8 := dkwX0_lengthOf_0 ++ dktX0_lengthOf_1
theorem dksX0_lengthOf_0 : cX0_lengthOf.data.toList.drop 0 = dktX0_lengthOf_0 := by decide +kernel
theorem dksX0_lengthOf_1 : cX0_lengthOf.data.toList.drop 1 = dktX0_lengthOf_1 := dk_seg dksX0_lengthOf_0 1 rfl rfl
theorem dksX0_lengthOf_2 : cX0_lengthOf.data.toList.drop 28 = dktX0_lengthOf_2 := dk_seg dksX0_lengthOf_1 27 rfl rfl
theorem dX0_lengthOf_0 : decode cX0_lengthOf 0 = .ok (.iload_n 1, 1) := dk_27 (dk_at dksX0_lengthOf_0 0 rfl rfl)
theorem dX0_lengthOf_1 : decode cX0_lengthOf 1 = .ok (.lookupswitch 39 #[(0, 27), (1, 33)], 27) := by decide +kernel
theorem dX0_lengthOf_28 : decode cX0_lengthOf 28 = .ok (.aload_n 0, 1) := dk_42 (dk_at dksX0_lengthOf_2 0 rfl rfl)
theorem dX0_lengthOf_29 : decode cX0_lengthOf 29 = .ok (.checkcast 549, 3) := dk_192 2 37 (dk_at dksX0_lengthOf_2 1 rfl rfl)
theorem dX0_lengthOf_32 : decode cX0_lengthOf 32 = .ok (.arraylength, 1) := dk_190 (dk_at dksX0_lengthOf_2 4 rfl rfl)
theorem dX0_lengthOf_33 : decode cX0_lengthOf 33 = .ok (.ireturn, 1) := dk_172 (dk_at dksX0_lengthOf_2 5 rfl rfl)
theorem dX0_lengthOf_34 : decode cX0_lengthOf 34 = .ok (.aload_n 0, 1) := dk_42 (dk_at dksX0_lengthOf_2 6 rfl rfl)
theorem dX0_lengthOf_35 : decode cX0_lengthOf 35 = .ok (.checkcast 553, 3) := dk_192 2 41 (dk_at dksX0_lengthOf_2 7 rfl rfl)
theorem dX0_lengthOf_38 : decode cX0_lengthOf 38 = .ok (.arraylength, 1) := dk_190 (dk_at dksX0_lengthOf_2 10 rfl rfl)
theorem dX0_lengthOf_39 : decode cX0_lengthOf 39 = .ok (.ireturn, 1) := dk_172 (dk_at dksX0_lengthOf_2 11 rfl rfl)
theorem dX0_lengthOf_40 : decode cX0_lengthOf 40 = .ok (.aload_n 0, 1) := dk_42 (dk_at dksX0_lengthOf_2 12 rfl rfl)
theorem dX0_lengthOf_41 : decode cX0_lengthOf 41 = .ok (.checkcast 555, 3) := dk_192 2 43 (dk_at dksX0_lengthOf_2 13 rfl rfl)
theorem dX0_lengthOf_44 : decode cX0_lengthOf 44 = .ok (.arraylength, 1) := dk_190 (dk_at dksX0_lengthOf_2 16 rfl rfl)
theorem dX0_lengthOf_45 : decode cX0_lengthOf 45 = .ok (.ireturn, 1) := dk_172 (dk_at dksX0_lengthOf_2 17 rfl rfl)
abbrev cX0_panesOf : ByteArray := prog_1_method_68_code
def yX0_panesOf : MethodName := ⟨RX0, "panesOf", "(Ljava/lang/Object;I)I"⟩
def dkwX0_panesOf_1 : List UInt8 := [160, 0, 10, 4, 21, 4, 120, 167, 0, 4, 3, 128, 62, 132, 4, 1, 167, 255, 221, 29, 172]
abbrev dktX0_panesOf_1 : List UInt8 := dkwX0_panesOf_1 ++ []
def dkwX0_panesOf_0 : List UInt8 := [3, 62, 3, 54, 4, 21, 4, 42, 180, 0, 18, 162, 0, 32, 29, 42, 43, 21, 4, 28, 182, 1, 200, 2]
abbrev dktX0_panesOf_0 : List UInt8 := dkwX0_panesOf_0 ++ dktX0_panesOf_1
theorem dksX0_panesOf_0 : cX0_panesOf.data.toList.drop 0 = dktX0_panesOf_0 := by decide +kernel
theorem dksX0_panesOf_1 : cX0_panesOf.data.toList.drop 24 = dktX0_panesOf_1 := dk_seg dksX0_panesOf_0 24 rfl rfl
theorem dX0_panesOf_0 : decode cX0_panesOf 0 = .ok (.iconst 0, 1) := dk_3 (dk_at dksX0_panesOf_0 0 rfl rfl)
theorem dX0_panesOf_1 : decode cX0_panesOf 1 = .ok (.istore_n 3, 1) := dk_62 (dk_at dksX0_panesOf_0 1 rfl rfl)
theorem dX0_panesOf_2 : decode cX0_panesOf 2 = .ok (.iconst 0, 1) := dk_3 (dk_at dksX0_panesOf_0 2 rfl rfl)
theorem dX0_panesOf_3 : decode cX0_panesOf 3 = .ok (.istore 4, 2) := dk_54 4 (dk_at dksX0_panesOf_0 3 rfl rfl)
theorem dX0_panesOf_5 : decode cX0_panesOf 5 = .ok (.iload 4, 2) := dk_21 4 (dk_at dksX0_panesOf_0 5 rfl rfl)
theorem dX0_panesOf_7 : decode cX0_panesOf 7 = .ok (.aload_n 0, 1) := dk_42 (dk_at dksX0_panesOf_0 7 rfl rfl)
theorem dX0_panesOf_8 : decode cX0_panesOf 8 = .ok (.getfield 18, 3) := dk_180 0 18 (dk_at dksX0_panesOf_0 8 rfl rfl)
theorem dX0_panesOf_11 : decode cX0_panesOf 11 = .ok (.if_icmp .ge 32, 3) := dk_162 0 32 (dk_at dksX0_panesOf_0 11 rfl rfl)
theorem dX0_panesOf_14 : decode cX0_panesOf 14 = .ok (.iload_n 3, 1) := dk_29 (dk_at dksX0_panesOf_0 14 rfl rfl)
theorem dX0_panesOf_15 : decode cX0_panesOf 15 = .ok (.aload_n 0, 1) := dk_42 (dk_at dksX0_panesOf_0 15 rfl rfl)
theorem dX0_panesOf_16 : decode cX0_panesOf 16 = .ok (.aload_n 1, 1) := dk_43 (dk_at dksX0_panesOf_0 16 rfl rfl)
theorem dX0_panesOf_17 : decode cX0_panesOf 17 = .ok (.iload 4, 2) := dk_21 4 (dk_at dksX0_panesOf_0 17 rfl rfl)
theorem dX0_panesOf_19 : decode cX0_panesOf 19 = .ok (.iload_n 2, 1) := dk_28 (dk_at dksX0_panesOf_0 19 rfl rfl)
theorem dX0_panesOf_20 : decode cX0_panesOf 20 = .ok (.invokevirtual 456, 3) := dk_182 1 200 (dk_at dksX0_panesOf_0 20 rfl rfl)
theorem dX0_panesOf_23 : decode cX0_panesOf 23 = .ok (.iconst (-1), 1) := dk_2 (dk_at dksX0_panesOf_0 23 rfl rfl)
theorem dX0_panesOf_24 : decode cX0_panesOf 24 = .ok (.if_icmp .ne 10, 3) := dk_160 0 10 (dk_at dksX0_panesOf_1 0 rfl rfl)
theorem dX0_panesOf_27 : decode cX0_panesOf 27 = .ok (.iconst 1, 1) := dk_4 (dk_at dksX0_panesOf_1 3 rfl rfl)
theorem dX0_panesOf_28 : decode cX0_panesOf 28 = .ok (.iload 4, 2) := dk_21 4 (dk_at dksX0_panesOf_1 4 rfl rfl)
theorem dX0_panesOf_30 : decode cX0_panesOf 30 = .ok (.ishl, 1) := dk_120 (dk_at dksX0_panesOf_1 6 rfl rfl)
theorem dX0_panesOf_31 : decode cX0_panesOf 31 = .ok (.goto 4, 3) := dk_167 0 4 (dk_at dksX0_panesOf_1 7 rfl rfl)
theorem dX0_panesOf_34 : decode cX0_panesOf 34 = .ok (.iconst 0, 1) := dk_3 (dk_at dksX0_panesOf_1 10 rfl rfl)
theorem dX0_panesOf_35 : decode cX0_panesOf 35 = .ok (.ior, 1) := dk_128 (dk_at dksX0_panesOf_1 11 rfl rfl)
theorem dX0_panesOf_36 : decode cX0_panesOf 36 = .ok (.istore_n 3, 1) := dk_62 (dk_at dksX0_panesOf_1 12 rfl rfl)
theorem dX0_panesOf_37 : decode cX0_panesOf 37 = .ok (.iinc 4 1, 3) := dk_132 4 1 (dk_at dksX0_panesOf_1 13 rfl rfl)
theorem dX0_panesOf_40 : decode cX0_panesOf 40 = .ok (.goto (-35), 3) := dk_167 255 221 (dk_at dksX0_panesOf_1 16 rfl rfl)
theorem dX0_panesOf_43 : decode cX0_panesOf 43 = .ok (.iload_n 3, 1) := dk_29 (dk_at dksX0_panesOf_1 19 rfl rfl)
theorem dX0_panesOf_44 : decode cX0_panesOf 44 = .ok (.ireturn, 1) := dk_172 (dk_at dksX0_panesOf_1 20 rfl rfl)
abbrev cX0_otherwise : ByteArray := prog_1_method_67_code
def yX0_otherwise : MethodName := ⟨RX0, "otherwise", "(Ljava/lang/Object;II)I"⟩
def dkwX0_otherwise_1 : List UInt8 := [21, 4, 182, 1, 123, 159, 0, 6, 21, 4, 172, 132, 4, 1, 167, 255, 222, 2, 172]
abbrev dktX0_otherwise_1 : List UInt8 := dkwX0_otherwise_1 ++ []
def dkwX0_otherwise_0 : List UInt8 := [3, 54, 4, 21, 4, 16, 8, 162, 0, 33, 43, 43, 184, 1, 192, 21, 4, 184, 1, 196, 42, 28, 29]
abbrev dktX0_otherwise_0 : List UInt8 := dkwX0_otherwise_0 ++ dktX0_otherwise_1
theorem dksX0_otherwise_0 : cX0_otherwise.data.toList.drop 0 = dktX0_otherwise_0 := by decide +kernel
theorem dksX0_otherwise_1 : cX0_otherwise.data.toList.drop 23 = dktX0_otherwise_1 := dk_seg dksX0_otherwise_0 23 rfl rfl
theorem dX0_otherwise_0 : decode cX0_otherwise 0 = .ok (.iconst 0, 1) := dk_3 (dk_at dksX0_otherwise_0 0 rfl rfl)
theorem dX0_otherwise_1 : decode cX0_otherwise 1 = .ok (.istore 4, 2) := dk_54 4 (dk_at dksX0_otherwise_0 1 rfl rfl)
theorem dX0_otherwise_3 : decode cX0_otherwise 3 = .ok (.iload 4, 2) := dk_21 4 (dk_at dksX0_otherwise_0 3 rfl rfl)
theorem dX0_otherwise_5 : decode cX0_otherwise 5 = .ok (.bipush 8, 2) := dk_16 8 (dk_at dksX0_otherwise_0 5 rfl rfl)
theorem dX0_otherwise_7 : decode cX0_otherwise 7 = .ok (.if_icmp .ge 33, 3) := dk_162 0 33 (dk_at dksX0_otherwise_0 7 rfl rfl)
theorem dX0_otherwise_10 : decode cX0_otherwise 10 = .ok (.aload_n 1, 1) := dk_43 (dk_at dksX0_otherwise_0 10 rfl rfl)
theorem dX0_otherwise_11 : decode cX0_otherwise 11 = .ok (.aload_n 1, 1) := dk_43 (dk_at dksX0_otherwise_0 11 rfl rfl)
theorem dX0_otherwise_12 : decode cX0_otherwise 12 = .ok (.invokestatic 448, 3) := dk_184 1 192 (dk_at dksX0_otherwise_0 12 rfl rfl)
theorem dX0_otherwise_15 : decode cX0_otherwise 15 = .ok (.iload 4, 2) := dk_21 4 (dk_at dksX0_otherwise_0 15 rfl rfl)
theorem dX0_otherwise_17 : decode cX0_otherwise 17 = .ok (.invokestatic 452, 3) := dk_184 1 196 (dk_at dksX0_otherwise_0 17 rfl rfl)
theorem dX0_otherwise_20 : decode cX0_otherwise 20 = .ok (.aload_n 0, 1) := dk_42 (dk_at dksX0_otherwise_0 20 rfl rfl)
theorem dX0_otherwise_21 : decode cX0_otherwise 21 = .ok (.iload_n 2, 1) := dk_28 (dk_at dksX0_otherwise_0 21 rfl rfl)
theorem dX0_otherwise_22 : decode cX0_otherwise 22 = .ok (.iload_n 3, 1) := dk_29 (dk_at dksX0_otherwise_0 22 rfl rfl)
theorem dX0_otherwise_23 : decode cX0_otherwise 23 = .ok (.iload 4, 2) := dk_21 4 (dk_at dksX0_otherwise_1 0 rfl rfl)
theorem dX0_otherwise_25 : decode cX0_otherwise 25 = .ok (.invokevirtual 379, 3) := dk_182 1 123 (dk_at dksX0_otherwise_1 2 rfl rfl)
theorem dX0_otherwise_28 : decode cX0_otherwise 28 = .ok (.if_icmp .eq 6, 3) := dk_159 0 6 (dk_at dksX0_otherwise_1 5 rfl rfl)
theorem dX0_otherwise_31 : decode cX0_otherwise 31 = .ok (.iload 4, 2) := dk_21 4 (dk_at dksX0_otherwise_1 8 rfl rfl)
theorem dX0_otherwise_33 : decode cX0_otherwise 33 = .ok (.ireturn, 1) := dk_172 (dk_at dksX0_otherwise_1 10 rfl rfl)
theorem dX0_otherwise_34 : decode cX0_otherwise 34 = .ok (.iinc 4 1, 3) := dk_132 4 1 (dk_at dksX0_otherwise_1 11 rfl rfl)
theorem dX0_otherwise_37 : decode cX0_otherwise 37 = .ok (.goto (-34), 3) := dk_167 255 222 (dk_at dksX0_otherwise_1 14 rfl rfl)
theorem dX0_otherwise_40 : decode cX0_otherwise 40 = .ok (.iconst (-1), 1) := dk_2 (dk_at dksX0_otherwise_1 17 rfl rfl)
theorem dX0_otherwise_41 : decode cX0_otherwise 41 = .ok (.ireturn, 1) := dk_172 (dk_at dksX0_otherwise_1 18 rfl rfl)
abbrev cX0_item : ByteArray := prog_1_method_93_code
def yX0_item : MethodName := ⟨RX0, "item", "(Ljava/lang/Object;II)I"⟩
def dkwX0_item_4 : List UInt8 := [46, 172]
abbrev dktX0_item_4 : List UInt8 := dkwX0_item_4 ++ []
def dkwX0_item_3 : List UInt8 := [184, 2, 38, 42, 192, 2, 41, 28, 53, 172, 28, 42, 192, 2, 43, 190, 184, 2, 38, 42, 192, 2, 43, 28]
abbrev dktX0_item_3 : List UInt8 := dkwX0_item_3 ++ dktX0_item_4
def dkwX0_item_2 : List UInt8 := [28, 42, 192, 2, 37, 190, 184, 2, 38, 42, 192, 2, 37, 28, 51, 172, 28, 42, 192, 2, 41, 190]
abbrev dktX0_item_2 : List UInt8 := dkwX0_item_2 ++ dktX0_item_3
def dkwX0_item_1 : List UInt8 := [171, 0, 0, 0, 0, 0, 59, 0, 0, 0, 2, 0, 0, 0, 0, 0, 0, 0, 27, 0, 0, 0, 1, 0, 0, 0, 43]
abbrev dktX0_item_1 : List UInt8 := dkwX0_item_1 ++ dktX0_item_2
def dkwX0_item_0 : List UInt8 := [27]
abbrev dktX0_item_0 : List UInt8 := dkwX0_item_0 ++ dktX0_item_1
theorem dksX0_item_0 : cX0_item.data.toList.drop 0 = dktX0_item_0 := by decide +kernel
theorem dksX0_item_1 : cX0_item.data.toList.drop 1 = dktX0_item_1 := dk_seg dksX0_item_0 1 rfl rfl
theorem dksX0_item_2 : cX0_item.data.toList.drop 28 = dktX0_item_2 := dk_seg dksX0_item_1 27 rfl rfl
theorem dksX0_item_3 : cX0_item.data.toList.drop 50 = dktX0_item_3 := dk_seg dksX0_item_2 22 rfl rfl
theorem dksX0_item_4 : cX0_item.data.toList.drop 74 = dktX0_item_4 := dk_seg dksX0_item_3 24 rfl rfl
theorem dX0_item_0 : decode cX0_item 0 = .ok (.iload_n 1, 1) := dk_27 (dk_at dksX0_item_0 0 rfl rfl)
theorem dX0_item_1 : decode cX0_item 1 = .ok (.lookupswitch 59 #[(0, 27), (1, 43)], 27) := by decide +kernel
theorem dX0_item_28 : decode cX0_item 28 = .ok (.iload_n 2, 1) := dk_28 (dk_at dksX0_item_2 0 rfl rfl)
theorem dX0_item_29 : decode cX0_item 29 = .ok (.aload_n 0, 1) := dk_42 (dk_at dksX0_item_2 1 rfl rfl)
theorem dX0_item_30 : decode cX0_item 30 = .ok (.checkcast 549, 3) := dk_192 2 37 (dk_at dksX0_item_2 2 rfl rfl)
theorem dX0_item_33 : decode cX0_item 33 = .ok (.arraylength, 1) := dk_190 (dk_at dksX0_item_2 5 rfl rfl)
theorem dX0_item_34 : decode cX0_item 34 = .ok (.invokestatic 550, 3) := dk_184 2 38 (dk_at dksX0_item_2 6 rfl rfl)
theorem dX0_item_37 : decode cX0_item 37 = .ok (.aload_n 0, 1) := dk_42 (dk_at dksX0_item_2 9 rfl rfl)
theorem dX0_item_38 : decode cX0_item 38 = .ok (.checkcast 549, 3) := dk_192 2 37 (dk_at dksX0_item_2 10 rfl rfl)
theorem dX0_item_41 : decode cX0_item 41 = .ok (.iload_n 2, 1) := dk_28 (dk_at dksX0_item_2 13 rfl rfl)
theorem dX0_item_42 : decode cX0_item 42 = .ok (.baload, 1) := dk_51 (dk_at dksX0_item_2 14 rfl rfl)
theorem dX0_item_43 : decode cX0_item 43 = .ok (.ireturn, 1) := dk_172 (dk_at dksX0_item_2 15 rfl rfl)
theorem dX0_item_44 : decode cX0_item 44 = .ok (.iload_n 2, 1) := dk_28 (dk_at dksX0_item_2 16 rfl rfl)
theorem dX0_item_45 : decode cX0_item 45 = .ok (.aload_n 0, 1) := dk_42 (dk_at dksX0_item_2 17 rfl rfl)
theorem dX0_item_46 : decode cX0_item 46 = .ok (.checkcast 553, 3) := dk_192 2 41 (dk_at dksX0_item_2 18 rfl rfl)
theorem dX0_item_49 : decode cX0_item 49 = .ok (.arraylength, 1) := dk_190 (dk_at dksX0_item_2 21 rfl rfl)
theorem dX0_item_50 : decode cX0_item 50 = .ok (.invokestatic 550, 3) := dk_184 2 38 (dk_at dksX0_item_3 0 rfl rfl)
theorem dX0_item_53 : decode cX0_item 53 = .ok (.aload_n 0, 1) := dk_42 (dk_at dksX0_item_3 3 rfl rfl)
theorem dX0_item_54 : decode cX0_item 54 = .ok (.checkcast 553, 3) := dk_192 2 41 (dk_at dksX0_item_3 4 rfl rfl)
theorem dX0_item_57 : decode cX0_item 57 = .ok (.iload_n 2, 1) := dk_28 (dk_at dksX0_item_3 7 rfl rfl)
theorem dX0_item_58 : decode cX0_item 58 = .ok (.saload, 1) := dk_53 (dk_at dksX0_item_3 8 rfl rfl)
theorem dX0_item_59 : decode cX0_item 59 = .ok (.ireturn, 1) := dk_172 (dk_at dksX0_item_3 9 rfl rfl)
theorem dX0_item_60 : decode cX0_item 60 = .ok (.iload_n 2, 1) := dk_28 (dk_at dksX0_item_3 10 rfl rfl)
theorem dX0_item_61 : decode cX0_item 61 = .ok (.aload_n 0, 1) := dk_42 (dk_at dksX0_item_3 11 rfl rfl)
theorem dX0_item_62 : decode cX0_item 62 = .ok (.checkcast 555, 3) := dk_192 2 43 (dk_at dksX0_item_3 12 rfl rfl)
theorem dX0_item_65 : decode cX0_item 65 = .ok (.arraylength, 1) := dk_190 (dk_at dksX0_item_3 15 rfl rfl)
theorem dX0_item_66 : decode cX0_item 66 = .ok (.invokestatic 550, 3) := dk_184 2 38 (dk_at dksX0_item_3 16 rfl rfl)
theorem dX0_item_69 : decode cX0_item 69 = .ok (.aload_n 0, 1) := dk_42 (dk_at dksX0_item_3 19 rfl rfl)
theorem dX0_item_70 : decode cX0_item 70 = .ok (.checkcast 555, 3) := dk_192 2 43 (dk_at dksX0_item_3 20 rfl rfl)
theorem dX0_item_73 : decode cX0_item 73 = .ok (.iload_n 2, 1) := dk_28 (dk_at dksX0_item_3 23 rfl rfl)
theorem dX0_item_74 : decode cX0_item 74 = .ok (.iaload, 1) := dk_46 (dk_at dksX0_item_4 0 rfl rfl)
theorem dX0_item_75 : decode cX0_item 75 = .ok (.ireturn, 1) := dk_172 (dk_at dksX0_item_4 1 rfl rfl)
abbrev cX0_asksPlace : ByteArray := prog_1_method_95_code
def yX0_asksPlace : MethodName := ⟨RX0, "asksPlace", "(II)V"⟩
def dkwX0_asksPlace_0 : List UInt8 := [26, 155, 0, 8, 26, 27, 161, 0, 11, 187, 2, 49, 89, 183, 2, 51, 191, 177]
abbrev dktX0_asksPlace_0 : List UInt8 := dkwX0_asksPlace_0 ++ []
theorem dksX0_asksPlace_0 : cX0_asksPlace.data.toList.drop 0 = dktX0_asksPlace_0 := by decide +kernel
theorem dX0_asksPlace_0 : decode cX0_asksPlace 0 = .ok (.iload_n 0, 1) := dk_26 (dk_at dksX0_asksPlace_0 0 rfl rfl)
theorem dX0_asksPlace_1 : decode cX0_asksPlace 1 = .ok (.ifCond .lt 8, 3) := dk_155 0 8 (dk_at dksX0_asksPlace_0 1 rfl rfl)
theorem dX0_asksPlace_4 : decode cX0_asksPlace 4 = .ok (.iload_n 0, 1) := dk_26 (dk_at dksX0_asksPlace_0 4 rfl rfl)
theorem dX0_asksPlace_5 : decode cX0_asksPlace 5 = .ok (.iload_n 1, 1) := dk_27 (dk_at dksX0_asksPlace_0 5 rfl rfl)
theorem dX0_asksPlace_6 : decode cX0_asksPlace 6 = .ok (.if_icmp .lt 11, 3) := dk_161 0 11 (dk_at dksX0_asksPlace_0 6 rfl rfl)
theorem dX0_asksPlace_9 : decode cX0_asksPlace 9 = .ok (.new 561, 3) := dk_187 2 49 (dk_at dksX0_asksPlace_0 9 rfl rfl)
theorem dX0_asksPlace_12 : decode cX0_asksPlace 12 = .ok (.dup, 1) := dk_89 (dk_at dksX0_asksPlace_0 12 rfl rfl)
theorem dX0_asksPlace_13 : decode cX0_asksPlace 13 = .ok (.invokespecial 563, 3) := dk_183 2 51 (dk_at dksX0_asksPlace_0 13 rfl rfl)
theorem dX0_asksPlace_16 : decode cX0_asksPlace 16 = .ok (.athrow, 1) := dk_191 (dk_at dksX0_asksPlace_0 16 rfl rfl)
theorem dX0_asksPlace_17 : decode cX0_asksPlace 17 = .ok (.return_, 1) := dk_177 (dk_at dksX0_asksPlace_0 17 rfl rfl)
abbrev cX0_toldOne : ByteArray := prog_1_method_75_code
def yX0_toldOne : MethodName := ⟨RX0, "toldOne", "(Ljava/lang/Object;III)I"⟩
def dkwX0_toldOne_4 : List UInt8 := [167, 0, 4, 3, 182, 1, 222, 172, 42, 43, 28, 29, 182, 1, 226, 172]
abbrev dktX0_toldOne_4 : List UInt8 := dkwX0_toldOne_4 ++ []
def dkwX0_toldOne_3 : List UInt8 := [172, 42, 43, 28, 29, 7, 182, 1, 218, 172, 42, 43, 28, 29, 21, 4, 16, 6, 160, 0, 7, 4]
abbrev dktX0_toldOne_3 : List UInt8 := dkwX0_toldOne_3 ++ dktX0_toldOne_4
def dkwX0_toldOne_2 : List UInt8 := [42, 43, 28, 29, 182, 1, 200, 172, 42, 43, 28, 29, 182, 1, 215, 172, 42, 43, 28, 29, 5, 182, 1, 218]
abbrev dktX0_toldOne_2 : List UInt8 := dkwX0_toldOne_2 ++ dktX0_toldOne_3
def dkwX0_toldOne_1 : List UInt8 := [170, 0, 0, 0, 0, 92, 0, 0, 0, 1, 0, 0, 0, 6, 0, 0, 0, 38, 0, 0, 0, 46, 0, 0, 0, 54, 0, 0, 0, 63, 0, 0, 0, 72, 0, 0, 0, 72]
abbrev dktX0_toldOne_1 : List UInt8 := dkwX0_toldOne_1 ++ dktX0_toldOne_2
def dkwX0_toldOne_0 : List UInt8 := [21, 4]
abbrev dktX0_toldOne_0 : List UInt8 := dkwX0_toldOne_0 ++ dktX0_toldOne_1
theorem dksX0_toldOne_0 : cX0_toldOne.data.toList.drop 0 = dktX0_toldOne_0 := by decide +kernel
theorem dksX0_toldOne_1 : cX0_toldOne.data.toList.drop 2 = dktX0_toldOne_1 := dk_seg dksX0_toldOne_0 2 rfl rfl
theorem dksX0_toldOne_2 : cX0_toldOne.data.toList.drop 40 = dktX0_toldOne_2 := dk_seg dksX0_toldOne_1 38 rfl rfl
theorem dksX0_toldOne_3 : cX0_toldOne.data.toList.drop 64 = dktX0_toldOne_3 := dk_seg dksX0_toldOne_2 24 rfl rfl
theorem dksX0_toldOne_4 : cX0_toldOne.data.toList.drop 86 = dktX0_toldOne_4 := dk_seg dksX0_toldOne_3 22 rfl rfl
theorem dX0_toldOne_0 : decode cX0_toldOne 0 = .ok (.iload 4, 2) := dk_21 4 (dk_at dksX0_toldOne_0 0 rfl rfl)
theorem dX0_toldOne_2 : decode cX0_toldOne 2 = .ok (.tableswitch 92 1 6 #[38, 46, 54, 63, 72, 72], 38) := by decide +kernel
theorem dX0_toldOne_40 : decode cX0_toldOne 40 = .ok (.aload_n 0, 1) := dk_42 (dk_at dksX0_toldOne_2 0 rfl rfl)
theorem dX0_toldOne_41 : decode cX0_toldOne 41 = .ok (.aload_n 1, 1) := dk_43 (dk_at dksX0_toldOne_2 1 rfl rfl)
theorem dX0_toldOne_42 : decode cX0_toldOne 42 = .ok (.iload_n 2, 1) := dk_28 (dk_at dksX0_toldOne_2 2 rfl rfl)
theorem dX0_toldOne_43 : decode cX0_toldOne 43 = .ok (.iload_n 3, 1) := dk_29 (dk_at dksX0_toldOne_2 3 rfl rfl)
theorem dX0_toldOne_44 : decode cX0_toldOne 44 = .ok (.invokevirtual 456, 3) := dk_182 1 200 (dk_at dksX0_toldOne_2 4 rfl rfl)
theorem dX0_toldOne_47 : decode cX0_toldOne 47 = .ok (.ireturn, 1) := dk_172 (dk_at dksX0_toldOne_2 7 rfl rfl)
theorem dX0_toldOne_48 : decode cX0_toldOne 48 = .ok (.aload_n 0, 1) := dk_42 (dk_at dksX0_toldOne_2 8 rfl rfl)
theorem dX0_toldOne_49 : decode cX0_toldOne 49 = .ok (.aload_n 1, 1) := dk_43 (dk_at dksX0_toldOne_2 9 rfl rfl)
theorem dX0_toldOne_50 : decode cX0_toldOne 50 = .ok (.iload_n 2, 1) := dk_28 (dk_at dksX0_toldOne_2 10 rfl rfl)
theorem dX0_toldOne_51 : decode cX0_toldOne 51 = .ok (.iload_n 3, 1) := dk_29 (dk_at dksX0_toldOne_2 11 rfl rfl)
theorem dX0_toldOne_52 : decode cX0_toldOne 52 = .ok (.invokevirtual 471, 3) := dk_182 1 215 (dk_at dksX0_toldOne_2 12 rfl rfl)
theorem dX0_toldOne_55 : decode cX0_toldOne 55 = .ok (.ireturn, 1) := dk_172 (dk_at dksX0_toldOne_2 15 rfl rfl)
theorem dX0_toldOne_56 : decode cX0_toldOne 56 = .ok (.aload_n 0, 1) := dk_42 (dk_at dksX0_toldOne_2 16 rfl rfl)
theorem dX0_toldOne_57 : decode cX0_toldOne 57 = .ok (.aload_n 1, 1) := dk_43 (dk_at dksX0_toldOne_2 17 rfl rfl)
theorem dX0_toldOne_58 : decode cX0_toldOne 58 = .ok (.iload_n 2, 1) := dk_28 (dk_at dksX0_toldOne_2 18 rfl rfl)
theorem dX0_toldOne_59 : decode cX0_toldOne 59 = .ok (.iload_n 3, 1) := dk_29 (dk_at dksX0_toldOne_2 19 rfl rfl)
theorem dX0_toldOne_60 : decode cX0_toldOne 60 = .ok (.iconst 2, 1) := dk_5 (dk_at dksX0_toldOne_2 20 rfl rfl)
theorem dX0_toldOne_61 : decode cX0_toldOne 61 = .ok (.invokevirtual 474, 3) := dk_182 1 218 (dk_at dksX0_toldOne_2 21 rfl rfl)
theorem dX0_toldOne_64 : decode cX0_toldOne 64 = .ok (.ireturn, 1) := dk_172 (dk_at dksX0_toldOne_3 0 rfl rfl)
theorem dX0_toldOne_65 : decode cX0_toldOne 65 = .ok (.aload_n 0, 1) := dk_42 (dk_at dksX0_toldOne_3 1 rfl rfl)
theorem dX0_toldOne_66 : decode cX0_toldOne 66 = .ok (.aload_n 1, 1) := dk_43 (dk_at dksX0_toldOne_3 2 rfl rfl)
theorem dX0_toldOne_67 : decode cX0_toldOne 67 = .ok (.iload_n 2, 1) := dk_28 (dk_at dksX0_toldOne_3 3 rfl rfl)
theorem dX0_toldOne_68 : decode cX0_toldOne 68 = .ok (.iload_n 3, 1) := dk_29 (dk_at dksX0_toldOne_3 4 rfl rfl)
theorem dX0_toldOne_69 : decode cX0_toldOne 69 = .ok (.iconst 4, 1) := dk_7 (dk_at dksX0_toldOne_3 5 rfl rfl)
theorem dX0_toldOne_70 : decode cX0_toldOne 70 = .ok (.invokevirtual 474, 3) := dk_182 1 218 (dk_at dksX0_toldOne_3 6 rfl rfl)
theorem dX0_toldOne_73 : decode cX0_toldOne 73 = .ok (.ireturn, 1) := dk_172 (dk_at dksX0_toldOne_3 9 rfl rfl)
theorem dX0_toldOne_74 : decode cX0_toldOne 74 = .ok (.aload_n 0, 1) := dk_42 (dk_at dksX0_toldOne_3 10 rfl rfl)
theorem dX0_toldOne_75 : decode cX0_toldOne 75 = .ok (.aload_n 1, 1) := dk_43 (dk_at dksX0_toldOne_3 11 rfl rfl)
theorem dX0_toldOne_76 : decode cX0_toldOne 76 = .ok (.iload_n 2, 1) := dk_28 (dk_at dksX0_toldOne_3 12 rfl rfl)
theorem dX0_toldOne_77 : decode cX0_toldOne 77 = .ok (.iload_n 3, 1) := dk_29 (dk_at dksX0_toldOne_3 13 rfl rfl)
theorem dX0_toldOne_78 : decode cX0_toldOne 78 = .ok (.iload 4, 2) := dk_21 4 (dk_at dksX0_toldOne_3 14 rfl rfl)
theorem dX0_toldOne_80 : decode cX0_toldOne 80 = .ok (.bipush 6, 2) := dk_16 6 (dk_at dksX0_toldOne_3 16 rfl rfl)
theorem dX0_toldOne_82 : decode cX0_toldOne 82 = .ok (.if_icmp .ne 7, 3) := dk_160 0 7 (dk_at dksX0_toldOne_3 18 rfl rfl)
theorem dX0_toldOne_85 : decode cX0_toldOne 85 = .ok (.iconst 1, 1) := dk_4 (dk_at dksX0_toldOne_3 21 rfl rfl)
theorem dX0_toldOne_86 : decode cX0_toldOne 86 = .ok (.goto 4, 3) := dk_167 0 4 (dk_at dksX0_toldOne_4 0 rfl rfl)
theorem dX0_toldOne_89 : decode cX0_toldOne 89 = .ok (.iconst 0, 1) := dk_3 (dk_at dksX0_toldOne_4 3 rfl rfl)
theorem dX0_toldOne_90 : decode cX0_toldOne 90 = .ok (.invokevirtual 478, 3) := dk_182 1 222 (dk_at dksX0_toldOne_4 4 rfl rfl)
theorem dX0_toldOne_93 : decode cX0_toldOne 93 = .ok (.ireturn, 1) := dk_172 (dk_at dksX0_toldOne_4 7 rfl rfl)
theorem dX0_toldOne_94 : decode cX0_toldOne 94 = .ok (.aload_n 0, 1) := dk_42 (dk_at dksX0_toldOne_4 8 rfl rfl)
theorem dX0_toldOne_95 : decode cX0_toldOne 95 = .ok (.aload_n 1, 1) := dk_43 (dk_at dksX0_toldOne_4 9 rfl rfl)
theorem dX0_toldOne_96 : decode cX0_toldOne 96 = .ok (.iload_n 2, 1) := dk_28 (dk_at dksX0_toldOne_4 10 rfl rfl)
theorem dX0_toldOne_97 : decode cX0_toldOne 97 = .ok (.iload_n 3, 1) := dk_29 (dk_at dksX0_toldOne_4 11 rfl rfl)
theorem dX0_toldOne_98 : decode cX0_toldOne 98 = .ok (.invokevirtual 482, 3) := dk_182 1 226 (dk_at dksX0_toldOne_4 12 rfl rfl)
theorem dX0_toldOne_101 : decode cX0_toldOne 101 = .ok (.ireturn, 1) := dk_172 (dk_at dksX0_toldOne_4 15 rfl rfl)
abbrev cX0_kindsOf : ByteArray := prog_1_method_70_code
def yX0_kindsOf : MethodName := ⟨RX0, "kindsOf", "(Ljava/lang/Object;II)I"⟩
def dkwX0_kindsOf_1 : List UInt8 := [153, 0, 10, 4, 21, 5, 120, 167, 0, 4, 3, 128, 54, 4, 132, 5, 1, 167, 255, 221, 21, 4, 172]
abbrev dktX0_kindsOf_1 : List UInt8 := dkwX0_kindsOf_1 ++ []
def dkwX0_kindsOf_0 : List UInt8 := [3, 54, 4, 3, 54, 5, 21, 5, 16, 6, 162, 0, 34, 21, 4, 42, 43, 28, 29, 21, 5, 182, 1, 207]
abbrev dktX0_kindsOf_0 : List UInt8 := dkwX0_kindsOf_0 ++ dktX0_kindsOf_1
theorem dksX0_kindsOf_0 : cX0_kindsOf.data.toList.drop 0 = dktX0_kindsOf_0 := by decide +kernel
theorem dksX0_kindsOf_1 : cX0_kindsOf.data.toList.drop 24 = dktX0_kindsOf_1 := dk_seg dksX0_kindsOf_0 24 rfl rfl
theorem dX0_kindsOf_0 : decode cX0_kindsOf 0 = .ok (.iconst 0, 1) := dk_3 (dk_at dksX0_kindsOf_0 0 rfl rfl)
theorem dX0_kindsOf_1 : decode cX0_kindsOf 1 = .ok (.istore 4, 2) := dk_54 4 (dk_at dksX0_kindsOf_0 1 rfl rfl)
theorem dX0_kindsOf_3 : decode cX0_kindsOf 3 = .ok (.iconst 0, 1) := dk_3 (dk_at dksX0_kindsOf_0 3 rfl rfl)
theorem dX0_kindsOf_4 : decode cX0_kindsOf 4 = .ok (.istore 5, 2) := dk_54 5 (dk_at dksX0_kindsOf_0 4 rfl rfl)
theorem dX0_kindsOf_6 : decode cX0_kindsOf 6 = .ok (.iload 5, 2) := dk_21 5 (dk_at dksX0_kindsOf_0 6 rfl rfl)
theorem dX0_kindsOf_8 : decode cX0_kindsOf 8 = .ok (.bipush 6, 2) := dk_16 6 (dk_at dksX0_kindsOf_0 8 rfl rfl)
theorem dX0_kindsOf_10 : decode cX0_kindsOf 10 = .ok (.if_icmp .ge 34, 3) := dk_162 0 34 (dk_at dksX0_kindsOf_0 10 rfl rfl)
theorem dX0_kindsOf_13 : decode cX0_kindsOf 13 = .ok (.iload 4, 2) := dk_21 4 (dk_at dksX0_kindsOf_0 13 rfl rfl)
theorem dX0_kindsOf_15 : decode cX0_kindsOf 15 = .ok (.aload_n 0, 1) := dk_42 (dk_at dksX0_kindsOf_0 15 rfl rfl)
theorem dX0_kindsOf_16 : decode cX0_kindsOf 16 = .ok (.aload_n 1, 1) := dk_43 (dk_at dksX0_kindsOf_0 16 rfl rfl)
theorem dX0_kindsOf_17 : decode cX0_kindsOf 17 = .ok (.iload_n 2, 1) := dk_28 (dk_at dksX0_kindsOf_0 17 rfl rfl)
theorem dX0_kindsOf_18 : decode cX0_kindsOf 18 = .ok (.iload_n 3, 1) := dk_29 (dk_at dksX0_kindsOf_0 18 rfl rfl)
theorem dX0_kindsOf_19 : decode cX0_kindsOf 19 = .ok (.iload 5, 2) := dk_21 5 (dk_at dksX0_kindsOf_0 19 rfl rfl)
theorem dX0_kindsOf_21 : decode cX0_kindsOf 21 = .ok (.invokevirtual 463, 3) := dk_182 1 207 (dk_at dksX0_kindsOf_0 21 rfl rfl)
theorem dX0_kindsOf_24 : decode cX0_kindsOf 24 = .ok (.ifCond .eq 10, 3) := dk_153 0 10 (dk_at dksX0_kindsOf_1 0 rfl rfl)
theorem dX0_kindsOf_27 : decode cX0_kindsOf 27 = .ok (.iconst 1, 1) := dk_4 (dk_at dksX0_kindsOf_1 3 rfl rfl)
theorem dX0_kindsOf_28 : decode cX0_kindsOf 28 = .ok (.iload 5, 2) := dk_21 5 (dk_at dksX0_kindsOf_1 4 rfl rfl)
theorem dX0_kindsOf_30 : decode cX0_kindsOf 30 = .ok (.ishl, 1) := dk_120 (dk_at dksX0_kindsOf_1 6 rfl rfl)
theorem dX0_kindsOf_31 : decode cX0_kindsOf 31 = .ok (.goto 4, 3) := dk_167 0 4 (dk_at dksX0_kindsOf_1 7 rfl rfl)
theorem dX0_kindsOf_34 : decode cX0_kindsOf 34 = .ok (.iconst 0, 1) := dk_3 (dk_at dksX0_kindsOf_1 10 rfl rfl)
theorem dX0_kindsOf_35 : decode cX0_kindsOf 35 = .ok (.ior, 1) := dk_128 (dk_at dksX0_kindsOf_1 11 rfl rfl)
theorem dX0_kindsOf_36 : decode cX0_kindsOf 36 = .ok (.istore 4, 2) := dk_54 4 (dk_at dksX0_kindsOf_1 12 rfl rfl)
theorem dX0_kindsOf_38 : decode cX0_kindsOf 38 = .ok (.iinc 5 1, 3) := dk_132 5 1 (dk_at dksX0_kindsOf_1 14 rfl rfl)
theorem dX0_kindsOf_41 : decode cX0_kindsOf 41 = .ok (.goto (-35), 3) := dk_167 255 221 (dk_at dksX0_kindsOf_1 17 rfl rfl)
theorem dX0_kindsOf_44 : decode cX0_kindsOf 44 = .ok (.iload 4, 2) := dk_21 4 (dk_at dksX0_kindsOf_1 20 rfl rfl)
theorem dX0_kindsOf_46 : decode cX0_kindsOf 46 = .ok (.ireturn, 1) := dk_172 (dk_at dksX0_kindsOf_1 22 rfl rfl)
abbrev cX0_isSoAs : ByteArray := prog_1_method_69_code
def yX0_isSoAs : MethodName := ⟨RX0, "isSoAs", "(Ljava/lang/Object;III)Z"⟩
def dkwX0_isSoAs_3 : List UInt8 := [25, 5, 83, 25, 7, 191]
abbrev dktX0_isSoAs_3 : List UInt8 := dkwX0_isSoAs_3 ++ []
def dkwX0_isSoAs_2 : List UInt8 := [167, 0, 4, 3, 54, 6, 42, 180, 0, 49, 28, 25, 5, 83, 21, 6, 172, 58, 7, 42, 180, 0, 49, 28]
abbrev dktX0_isSoAs_2 : List UInt8 := dkwX0_isSoAs_2 ++ dktX0_isSoAs_3
def dkwX0_isSoAs_1 : List UInt8 := [180, 0, 78, 184, 0, 53, 25, 5, 182, 1, 203, 83, 42, 43, 28, 29, 182, 1, 200, 2, 160, 0, 7, 4]
abbrev dktX0_isSoAs_1 : List UInt8 := dkwX0_isSoAs_1 ++ dktX0_isSoAs_2
def dkwX0_isSoAs_0 : List UInt8 := [42, 180, 0, 49, 28, 50, 58, 5, 42, 180, 0, 49, 28, 21, 4, 25, 5, 180, 0, 75, 25, 5]
abbrev dktX0_isSoAs_0 : List UInt8 := dkwX0_isSoAs_0 ++ dktX0_isSoAs_1
theorem dksX0_isSoAs_0 : cX0_isSoAs.data.toList.drop 0 = dktX0_isSoAs_0 := by decide +kernel
theorem dksX0_isSoAs_1 : cX0_isSoAs.data.toList.drop 22 = dktX0_isSoAs_1 := dk_seg dksX0_isSoAs_0 22 rfl rfl
theorem dksX0_isSoAs_2 : cX0_isSoAs.data.toList.drop 46 = dktX0_isSoAs_2 := dk_seg dksX0_isSoAs_1 24 rfl rfl
theorem dksX0_isSoAs_3 : cX0_isSoAs.data.toList.drop 70 = dktX0_isSoAs_3 := dk_seg dksX0_isSoAs_2 24 rfl rfl
theorem dX0_isSoAs_0 : decode cX0_isSoAs 0 = .ok (.aload_n 0, 1) := dk_42 (dk_at dksX0_isSoAs_0 0 rfl rfl)
theorem dX0_isSoAs_1 : decode cX0_isSoAs 1 = .ok (.getfield 49, 3) := dk_180 0 49 (dk_at dksX0_isSoAs_0 1 rfl rfl)
theorem dX0_isSoAs_4 : decode cX0_isSoAs 4 = .ok (.iload_n 2, 1) := dk_28 (dk_at dksX0_isSoAs_0 4 rfl rfl)
theorem dX0_isSoAs_5 : decode cX0_isSoAs 5 = .ok (.aaload, 1) := dk_50 (dk_at dksX0_isSoAs_0 5 rfl rfl)
theorem dX0_isSoAs_6 : decode cX0_isSoAs 6 = .ok (.astore 5, 2) := dk_58 5 (dk_at dksX0_isSoAs_0 6 rfl rfl)
theorem dX0_isSoAs_8 : decode cX0_isSoAs 8 = .ok (.aload_n 0, 1) := dk_42 (dk_at dksX0_isSoAs_0 8 rfl rfl)
theorem dX0_isSoAs_9 : decode cX0_isSoAs 9 = .ok (.getfield 49, 3) := dk_180 0 49 (dk_at dksX0_isSoAs_0 9 rfl rfl)
theorem dX0_isSoAs_12 : decode cX0_isSoAs 12 = .ok (.iload_n 2, 1) := dk_28 (dk_at dksX0_isSoAs_0 12 rfl rfl)
theorem dX0_isSoAs_13 : decode cX0_isSoAs 13 = .ok (.iload 4, 2) := dk_21 4 (dk_at dksX0_isSoAs_0 13 rfl rfl)
theorem dX0_isSoAs_15 : decode cX0_isSoAs 15 = .ok (.aload 5, 2) := dk_25 5 (dk_at dksX0_isSoAs_0 15 rfl rfl)
theorem dX0_isSoAs_17 : decode cX0_isSoAs 17 = .ok (.getfield 75, 3) := dk_180 0 75 (dk_at dksX0_isSoAs_0 17 rfl rfl)
theorem dX0_isSoAs_20 : decode cX0_isSoAs 20 = .ok (.aload 5, 2) := dk_25 5 (dk_at dksX0_isSoAs_0 20 rfl rfl)
theorem dX0_isSoAs_22 : decode cX0_isSoAs 22 = .ok (.getfield 78, 3) := dk_180 0 78 (dk_at dksX0_isSoAs_1 0 rfl rfl)
theorem dX0_isSoAs_25 : decode cX0_isSoAs 25 = .ok (.invokestatic 53, 3) := dk_184 0 53 (dk_at dksX0_isSoAs_1 3 rfl rfl)
theorem dX0_isSoAs_28 : decode cX0_isSoAs 28 = .ok (.aload 5, 2) := dk_25 5 (dk_at dksX0_isSoAs_1 6 rfl rfl)
theorem dX0_isSoAs_30 : decode cX0_isSoAs 30 = .ok (.invokevirtual 459, 3) := dk_182 1 203 (dk_at dksX0_isSoAs_1 8 rfl rfl)
theorem dX0_isSoAs_33 : decode cX0_isSoAs 33 = .ok (.aastore, 1) := dk_83 (dk_at dksX0_isSoAs_1 11 rfl rfl)
theorem dX0_isSoAs_34 : decode cX0_isSoAs 34 = .ok (.aload_n 0, 1) := dk_42 (dk_at dksX0_isSoAs_1 12 rfl rfl)
theorem dX0_isSoAs_35 : decode cX0_isSoAs 35 = .ok (.aload_n 1, 1) := dk_43 (dk_at dksX0_isSoAs_1 13 rfl rfl)
theorem dX0_isSoAs_36 : decode cX0_isSoAs 36 = .ok (.iload_n 2, 1) := dk_28 (dk_at dksX0_isSoAs_1 14 rfl rfl)
theorem dX0_isSoAs_37 : decode cX0_isSoAs 37 = .ok (.iload_n 3, 1) := dk_29 (dk_at dksX0_isSoAs_1 15 rfl rfl)
theorem dX0_isSoAs_38 : decode cX0_isSoAs 38 = .ok (.invokevirtual 456, 3) := dk_182 1 200 (dk_at dksX0_isSoAs_1 16 rfl rfl)
theorem dX0_isSoAs_41 : decode cX0_isSoAs 41 = .ok (.iconst (-1), 1) := dk_2 (dk_at dksX0_isSoAs_1 19 rfl rfl)
theorem dX0_isSoAs_42 : decode cX0_isSoAs 42 = .ok (.if_icmp .ne 7, 3) := dk_160 0 7 (dk_at dksX0_isSoAs_1 20 rfl rfl)
theorem dX0_isSoAs_45 : decode cX0_isSoAs 45 = .ok (.iconst 1, 1) := dk_4 (dk_at dksX0_isSoAs_1 23 rfl rfl)
theorem dX0_isSoAs_46 : decode cX0_isSoAs 46 = .ok (.goto 4, 3) := dk_167 0 4 (dk_at dksX0_isSoAs_2 0 rfl rfl)
theorem dX0_isSoAs_49 : decode cX0_isSoAs 49 = .ok (.iconst 0, 1) := dk_3 (dk_at dksX0_isSoAs_2 3 rfl rfl)
theorem dX0_isSoAs_50 : decode cX0_isSoAs 50 = .ok (.istore 6, 2) := dk_54 6 (dk_at dksX0_isSoAs_2 4 rfl rfl)
theorem dX0_isSoAs_52 : decode cX0_isSoAs 52 = .ok (.aload_n 0, 1) := dk_42 (dk_at dksX0_isSoAs_2 6 rfl rfl)
theorem dX0_isSoAs_53 : decode cX0_isSoAs 53 = .ok (.getfield 49, 3) := dk_180 0 49 (dk_at dksX0_isSoAs_2 7 rfl rfl)
theorem dX0_isSoAs_56 : decode cX0_isSoAs 56 = .ok (.iload_n 2, 1) := dk_28 (dk_at dksX0_isSoAs_2 10 rfl rfl)
theorem dX0_isSoAs_57 : decode cX0_isSoAs 57 = .ok (.aload 5, 2) := dk_25 5 (dk_at dksX0_isSoAs_2 11 rfl rfl)
theorem dX0_isSoAs_59 : decode cX0_isSoAs 59 = .ok (.aastore, 1) := dk_83 (dk_at dksX0_isSoAs_2 13 rfl rfl)
theorem dX0_isSoAs_60 : decode cX0_isSoAs 60 = .ok (.iload 6, 2) := dk_21 6 (dk_at dksX0_isSoAs_2 14 rfl rfl)
theorem dX0_isSoAs_62 : decode cX0_isSoAs 62 = .ok (.ireturn, 1) := dk_172 (dk_at dksX0_isSoAs_2 16 rfl rfl)
theorem dX0_isSoAs_63 : decode cX0_isSoAs 63 = .ok (.astore 7, 2) := dk_58 7 (dk_at dksX0_isSoAs_2 17 rfl rfl)
theorem dX0_isSoAs_65 : decode cX0_isSoAs 65 = .ok (.aload_n 0, 1) := dk_42 (dk_at dksX0_isSoAs_2 19 rfl rfl)
theorem dX0_isSoAs_66 : decode cX0_isSoAs 66 = .ok (.getfield 49, 3) := dk_180 0 49 (dk_at dksX0_isSoAs_2 20 rfl rfl)
theorem dX0_isSoAs_69 : decode cX0_isSoAs 69 = .ok (.iload_n 2, 1) := dk_28 (dk_at dksX0_isSoAs_2 23 rfl rfl)
theorem dX0_isSoAs_70 : decode cX0_isSoAs 70 = .ok (.aload 5, 2) := dk_25 5 (dk_at dksX0_isSoAs_3 0 rfl rfl)
theorem dX0_isSoAs_72 : decode cX0_isSoAs 72 = .ok (.aastore, 1) := dk_83 (dk_at dksX0_isSoAs_3 2 rfl rfl)
theorem dX0_isSoAs_73 : decode cX0_isSoAs 73 = .ok (.aload 7, 2) := dk_25 7 (dk_at dksX0_isSoAs_3 3 rfl rfl)
theorem dX0_isSoAs_75 : decode cX0_isSoAs 75 = .ok (.athrow, 1) := dk_191 (dk_at dksX0_isSoAs_3 5 rfl rfl)
abbrev cX0_digitsBy : ByteArray := prog_1_method_72_code
def yX0_digitsBy : MethodName := ⟨RX0, "digitsBy", "(Ljava/lang/Object;III)I"⟩
def dkwX0_digitsBy_2 : List UInt8 := [21, 5, 172]
abbrev dktX0_digitsBy_2 : List UInt8 := dkwX0_digitsBy_2 ++ []
def dkwX0_digitsBy_1 : List UInt8 := [182, 1, 211, 153, 0, 10, 4, 21, 6, 120, 167, 0, 4, 3, 128, 54, 5, 132, 6, 1, 167, 255, 219]
abbrev dktX0_digitsBy_1 : List UInt8 := dkwX0_digitsBy_1 ++ dktX0_digitsBy_2
def dkwX0_digitsBy_0 : List UInt8 := [3, 54, 5, 3, 54, 6, 21, 6, 16, 9, 163, 0, 36, 21, 5, 42, 43, 28, 29, 21, 4, 21, 6]
abbrev dktX0_digitsBy_0 : List UInt8 := dkwX0_digitsBy_0 ++ dktX0_digitsBy_1
theorem dksX0_digitsBy_0 : cX0_digitsBy.data.toList.drop 0 = dktX0_digitsBy_0 := by decide +kernel
theorem dksX0_digitsBy_1 : cX0_digitsBy.data.toList.drop 23 = dktX0_digitsBy_1 := dk_seg dksX0_digitsBy_0 23 rfl rfl
theorem dksX0_digitsBy_2 : cX0_digitsBy.data.toList.drop 46 = dktX0_digitsBy_2 := dk_seg dksX0_digitsBy_1 23 rfl rfl
theorem dX0_digitsBy_0 : decode cX0_digitsBy 0 = .ok (.iconst 0, 1) := dk_3 (dk_at dksX0_digitsBy_0 0 rfl rfl)
theorem dX0_digitsBy_1 : decode cX0_digitsBy 1 = .ok (.istore 5, 2) := dk_54 5 (dk_at dksX0_digitsBy_0 1 rfl rfl)
theorem dX0_digitsBy_3 : decode cX0_digitsBy 3 = .ok (.iconst 0, 1) := dk_3 (dk_at dksX0_digitsBy_0 3 rfl rfl)
theorem dX0_digitsBy_4 : decode cX0_digitsBy 4 = .ok (.istore 6, 2) := dk_54 6 (dk_at dksX0_digitsBy_0 4 rfl rfl)
theorem dX0_digitsBy_6 : decode cX0_digitsBy 6 = .ok (.iload 6, 2) := dk_21 6 (dk_at dksX0_digitsBy_0 6 rfl rfl)
theorem dX0_digitsBy_8 : decode cX0_digitsBy 8 = .ok (.bipush 9, 2) := dk_16 9 (dk_at dksX0_digitsBy_0 8 rfl rfl)
theorem dX0_digitsBy_10 : decode cX0_digitsBy 10 = .ok (.if_icmp .gt 36, 3) := dk_163 0 36 (dk_at dksX0_digitsBy_0 10 rfl rfl)
theorem dX0_digitsBy_13 : decode cX0_digitsBy 13 = .ok (.iload 5, 2) := dk_21 5 (dk_at dksX0_digitsBy_0 13 rfl rfl)
theorem dX0_digitsBy_15 : decode cX0_digitsBy 15 = .ok (.aload_n 0, 1) := dk_42 (dk_at dksX0_digitsBy_0 15 rfl rfl)
theorem dX0_digitsBy_16 : decode cX0_digitsBy 16 = .ok (.aload_n 1, 1) := dk_43 (dk_at dksX0_digitsBy_0 16 rfl rfl)
theorem dX0_digitsBy_17 : decode cX0_digitsBy 17 = .ok (.iload_n 2, 1) := dk_28 (dk_at dksX0_digitsBy_0 17 rfl rfl)
theorem dX0_digitsBy_18 : decode cX0_digitsBy 18 = .ok (.iload_n 3, 1) := dk_29 (dk_at dksX0_digitsBy_0 18 rfl rfl)
theorem dX0_digitsBy_19 : decode cX0_digitsBy 19 = .ok (.iload 4, 2) := dk_21 4 (dk_at dksX0_digitsBy_0 19 rfl rfl)
theorem dX0_digitsBy_21 : decode cX0_digitsBy 21 = .ok (.iload 6, 2) := dk_21 6 (dk_at dksX0_digitsBy_0 21 rfl rfl)
theorem dX0_digitsBy_23 : decode cX0_digitsBy 23 = .ok (.invokevirtual 467, 3) := dk_182 1 211 (dk_at dksX0_digitsBy_1 0 rfl rfl)
theorem dX0_digitsBy_26 : decode cX0_digitsBy 26 = .ok (.ifCond .eq 10, 3) := dk_153 0 10 (dk_at dksX0_digitsBy_1 3 rfl rfl)
theorem dX0_digitsBy_29 : decode cX0_digitsBy 29 = .ok (.iconst 1, 1) := dk_4 (dk_at dksX0_digitsBy_1 6 rfl rfl)
theorem dX0_digitsBy_30 : decode cX0_digitsBy 30 = .ok (.iload 6, 2) := dk_21 6 (dk_at dksX0_digitsBy_1 7 rfl rfl)
theorem dX0_digitsBy_32 : decode cX0_digitsBy 32 = .ok (.ishl, 1) := dk_120 (dk_at dksX0_digitsBy_1 9 rfl rfl)
theorem dX0_digitsBy_33 : decode cX0_digitsBy 33 = .ok (.goto 4, 3) := dk_167 0 4 (dk_at dksX0_digitsBy_1 10 rfl rfl)
theorem dX0_digitsBy_36 : decode cX0_digitsBy 36 = .ok (.iconst 0, 1) := dk_3 (dk_at dksX0_digitsBy_1 13 rfl rfl)
theorem dX0_digitsBy_37 : decode cX0_digitsBy 37 = .ok (.ior, 1) := dk_128 (dk_at dksX0_digitsBy_1 14 rfl rfl)
theorem dX0_digitsBy_38 : decode cX0_digitsBy 38 = .ok (.istore 5, 2) := dk_54 5 (dk_at dksX0_digitsBy_1 15 rfl rfl)
theorem dX0_digitsBy_40 : decode cX0_digitsBy 40 = .ok (.iinc 6 1, 3) := dk_132 6 1 (dk_at dksX0_digitsBy_1 17 rfl rfl)
theorem dX0_digitsBy_43 : decode cX0_digitsBy 43 = .ok (.goto (-37), 3) := dk_167 255 219 (dk_at dksX0_digitsBy_1 20 rfl rfl)
theorem dX0_digitsBy_46 : decode cX0_digitsBy 46 = .ok (.iload 5, 2) := dk_21 5 (dk_at dksX0_digitsBy_2 0 rfl rfl)
theorem dX0_digitsBy_48 : decode cX0_digitsBy 48 = .ok (.ireturn, 1) := dk_172 (dk_at dksX0_digitsBy_2 2 rfl rfl)
abbrev cX0_isSoBy : ByteArray := prog_1_method_71_code
def yX0_isSoBy : MethodName := ⟨RX0, "isSoBy", "(Ljava/lang/Object;IIII)Z"⟩
def dkwX0_isSoBy_2 : List UInt8 := [21, 7, 172, 58, 8, 42, 21, 4, 28, 21, 6, 182, 0, 91, 25, 8, 191]
abbrev dktX0_isSoBy_2 : List UInt8 := dkwX0_isSoBy_2 ++ []
def dkwX0_isSoBy_1 : List UInt8 := [182, 1, 200, 2, 160, 0, 7, 4, 167, 0, 4, 3, 54, 7, 42, 21, 4, 28, 21, 6, 182, 0, 91]
abbrev dktX0_isSoBy_1 : List UInt8 := dkwX0_isSoBy_1 ++ dktX0_isSoBy_2
def dkwX0_isSoBy_0 : List UInt8 := [42, 28, 21, 4, 182, 0, 88, 54, 6, 42, 21, 4, 28, 21, 5, 182, 0, 91, 42, 43, 28, 29]
abbrev dktX0_isSoBy_0 : List UInt8 := dkwX0_isSoBy_0 ++ dktX0_isSoBy_1
theorem dksX0_isSoBy_0 : cX0_isSoBy.data.toList.drop 0 = dktX0_isSoBy_0 := by decide +kernel
theorem dksX0_isSoBy_1 : cX0_isSoBy.data.toList.drop 22 = dktX0_isSoBy_1 := dk_seg dksX0_isSoBy_0 22 rfl rfl
theorem dksX0_isSoBy_2 : cX0_isSoBy.data.toList.drop 45 = dktX0_isSoBy_2 := dk_seg dksX0_isSoBy_1 23 rfl rfl
theorem dX0_isSoBy_0 : decode cX0_isSoBy 0 = .ok (.aload_n 0, 1) := dk_42 (dk_at dksX0_isSoBy_0 0 rfl rfl)
theorem dX0_isSoBy_1 : decode cX0_isSoBy 1 = .ok (.iload_n 2, 1) := dk_28 (dk_at dksX0_isSoBy_0 1 rfl rfl)
theorem dX0_isSoBy_2 : decode cX0_isSoBy 2 = .ok (.iload 4, 2) := dk_21 4 (dk_at dksX0_isSoBy_0 2 rfl rfl)
theorem dX0_isSoBy_4 : decode cX0_isSoBy 4 = .ok (.invokevirtual 88, 3) := dk_182 0 88 (dk_at dksX0_isSoBy_0 4 rfl rfl)
theorem dX0_isSoBy_7 : decode cX0_isSoBy 7 = .ok (.istore 6, 2) := dk_54 6 (dk_at dksX0_isSoBy_0 7 rfl rfl)
theorem dX0_isSoBy_9 : decode cX0_isSoBy 9 = .ok (.aload_n 0, 1) := dk_42 (dk_at dksX0_isSoBy_0 9 rfl rfl)
theorem dX0_isSoBy_10 : decode cX0_isSoBy 10 = .ok (.iload 4, 2) := dk_21 4 (dk_at dksX0_isSoBy_0 10 rfl rfl)
theorem dX0_isSoBy_12 : decode cX0_isSoBy 12 = .ok (.iload_n 2, 1) := dk_28 (dk_at dksX0_isSoBy_0 12 rfl rfl)
theorem dX0_isSoBy_13 : decode cX0_isSoBy 13 = .ok (.iload 5, 2) := dk_21 5 (dk_at dksX0_isSoBy_0 13 rfl rfl)
theorem dX0_isSoBy_15 : decode cX0_isSoBy 15 = .ok (.invokevirtual 91, 3) := dk_182 0 91 (dk_at dksX0_isSoBy_0 15 rfl rfl)
theorem dX0_isSoBy_18 : decode cX0_isSoBy 18 = .ok (.aload_n 0, 1) := dk_42 (dk_at dksX0_isSoBy_0 18 rfl rfl)
theorem dX0_isSoBy_19 : decode cX0_isSoBy 19 = .ok (.aload_n 1, 1) := dk_43 (dk_at dksX0_isSoBy_0 19 rfl rfl)
theorem dX0_isSoBy_20 : decode cX0_isSoBy 20 = .ok (.iload_n 2, 1) := dk_28 (dk_at dksX0_isSoBy_0 20 rfl rfl)
theorem dX0_isSoBy_21 : decode cX0_isSoBy 21 = .ok (.iload_n 3, 1) := dk_29 (dk_at dksX0_isSoBy_0 21 rfl rfl)
theorem dX0_isSoBy_22 : decode cX0_isSoBy 22 = .ok (.invokevirtual 456, 3) := dk_182 1 200 (dk_at dksX0_isSoBy_1 0 rfl rfl)
theorem dX0_isSoBy_25 : decode cX0_isSoBy 25 = .ok (.iconst (-1), 1) := dk_2 (dk_at dksX0_isSoBy_1 3 rfl rfl)
theorem dX0_isSoBy_26 : decode cX0_isSoBy 26 = .ok (.if_icmp .ne 7, 3) := dk_160 0 7 (dk_at dksX0_isSoBy_1 4 rfl rfl)
theorem dX0_isSoBy_29 : decode cX0_isSoBy 29 = .ok (.iconst 1, 1) := dk_4 (dk_at dksX0_isSoBy_1 7 rfl rfl)
theorem dX0_isSoBy_30 : decode cX0_isSoBy 30 = .ok (.goto 4, 3) := dk_167 0 4 (dk_at dksX0_isSoBy_1 8 rfl rfl)
theorem dX0_isSoBy_33 : decode cX0_isSoBy 33 = .ok (.iconst 0, 1) := dk_3 (dk_at dksX0_isSoBy_1 11 rfl rfl)
theorem dX0_isSoBy_34 : decode cX0_isSoBy 34 = .ok (.istore 7, 2) := dk_54 7 (dk_at dksX0_isSoBy_1 12 rfl rfl)
theorem dX0_isSoBy_36 : decode cX0_isSoBy 36 = .ok (.aload_n 0, 1) := dk_42 (dk_at dksX0_isSoBy_1 14 rfl rfl)
theorem dX0_isSoBy_37 : decode cX0_isSoBy 37 = .ok (.iload 4, 2) := dk_21 4 (dk_at dksX0_isSoBy_1 15 rfl rfl)
theorem dX0_isSoBy_39 : decode cX0_isSoBy 39 = .ok (.iload_n 2, 1) := dk_28 (dk_at dksX0_isSoBy_1 17 rfl rfl)
theorem dX0_isSoBy_40 : decode cX0_isSoBy 40 = .ok (.iload 6, 2) := dk_21 6 (dk_at dksX0_isSoBy_1 18 rfl rfl)
theorem dX0_isSoBy_42 : decode cX0_isSoBy 42 = .ok (.invokevirtual 91, 3) := dk_182 0 91 (dk_at dksX0_isSoBy_1 20 rfl rfl)
theorem dX0_isSoBy_45 : decode cX0_isSoBy 45 = .ok (.iload 7, 2) := dk_21 7 (dk_at dksX0_isSoBy_2 0 rfl rfl)
theorem dX0_isSoBy_47 : decode cX0_isSoBy 47 = .ok (.ireturn, 1) := dk_172 (dk_at dksX0_isSoBy_2 2 rfl rfl)
theorem dX0_isSoBy_48 : decode cX0_isSoBy 48 = .ok (.astore 8, 2) := dk_58 8 (dk_at dksX0_isSoBy_2 3 rfl rfl)
theorem dX0_isSoBy_50 : decode cX0_isSoBy 50 = .ok (.aload_n 0, 1) := dk_42 (dk_at dksX0_isSoBy_2 5 rfl rfl)
theorem dX0_isSoBy_51 : decode cX0_isSoBy 51 = .ok (.iload 4, 2) := dk_21 4 (dk_at dksX0_isSoBy_2 6 rfl rfl)
theorem dX0_isSoBy_53 : decode cX0_isSoBy 53 = .ok (.iload_n 2, 1) := dk_28 (dk_at dksX0_isSoBy_2 8 rfl rfl)
theorem dX0_isSoBy_54 : decode cX0_isSoBy 54 = .ok (.iload 6, 2) := dk_21 6 (dk_at dksX0_isSoBy_2 9 rfl rfl)
theorem dX0_isSoBy_56 : decode cX0_isSoBy 56 = .ok (.invokevirtual 91, 3) := dk_182 0 91 (dk_at dksX0_isSoBy_2 11 rfl rfl)
theorem dX0_isSoBy_59 : decode cX0_isSoBy 59 = .ok (.aload 8, 2) := dk_25 8 (dk_at dksX0_isSoBy_2 14 rfl rfl)
theorem dX0_isSoBy_61 : decode cX0_isSoBy 61 = .ok (.athrow, 1) := dk_191 (dk_at dksX0_isSoBy_2 16 rfl rfl)
abbrev cX0_daysBy : ByteArray := prog_1_method_73_code
def yX0_daysBy : MethodName := ⟨RX0, "daysBy", "(Ljava/lang/Object;IIZ)I"⟩
def dkwX0_daysBy_2 : List UInt8 := [153, 0, 7, 2, 167, 0, 5, 21, 5, 172]
abbrev dktX0_daysBy_2 : List UInt8 := dkwX0_daysBy_2 ++ []
def dkwX0_daysBy_1 : List UInt8 := [153, 0, 14, 21, 4, 153, 0, 6, 21, 6, 172, 132, 5, 1, 132, 6, 1, 167, 255, 221, 21, 4]
abbrev dktX0_daysBy_1 : List UInt8 := dkwX0_daysBy_1 ++ dktX0_daysBy_2
def dkwX0_daysBy_0 : List UInt8 := [3, 54, 5, 3, 54, 6, 21, 6, 17, 1, 109, 162, 0, 33, 42, 43, 28, 29, 6, 21, 6, 182, 1, 211]
abbrev dktX0_daysBy_0 : List UInt8 := dkwX0_daysBy_0 ++ dktX0_daysBy_1
theorem dksX0_daysBy_0 : cX0_daysBy.data.toList.drop 0 = dktX0_daysBy_0 := by decide +kernel
theorem dksX0_daysBy_1 : cX0_daysBy.data.toList.drop 24 = dktX0_daysBy_1 := dk_seg dksX0_daysBy_0 24 rfl rfl
theorem dksX0_daysBy_2 : cX0_daysBy.data.toList.drop 46 = dktX0_daysBy_2 := dk_seg dksX0_daysBy_1 22 rfl rfl
theorem dX0_daysBy_0 : decode cX0_daysBy 0 = .ok (.iconst 0, 1) := dk_3 (dk_at dksX0_daysBy_0 0 rfl rfl)
theorem dX0_daysBy_1 : decode cX0_daysBy 1 = .ok (.istore 5, 2) := dk_54 5 (dk_at dksX0_daysBy_0 1 rfl rfl)
theorem dX0_daysBy_3 : decode cX0_daysBy 3 = .ok (.iconst 0, 1) := dk_3 (dk_at dksX0_daysBy_0 3 rfl rfl)
theorem dX0_daysBy_4 : decode cX0_daysBy 4 = .ok (.istore 6, 2) := dk_54 6 (dk_at dksX0_daysBy_0 4 rfl rfl)
theorem dX0_daysBy_6 : decode cX0_daysBy 6 = .ok (.iload 6, 2) := dk_21 6 (dk_at dksX0_daysBy_0 6 rfl rfl)
theorem dX0_daysBy_8 : decode cX0_daysBy 8 = .ok (.sipush 365, 3) := dk_17 1 109 (dk_at dksX0_daysBy_0 8 rfl rfl)
theorem dX0_daysBy_11 : decode cX0_daysBy 11 = .ok (.if_icmp .ge 33, 3) := dk_162 0 33 (dk_at dksX0_daysBy_0 11 rfl rfl)
theorem dX0_daysBy_14 : decode cX0_daysBy 14 = .ok (.aload_n 0, 1) := dk_42 (dk_at dksX0_daysBy_0 14 rfl rfl)
theorem dX0_daysBy_15 : decode cX0_daysBy 15 = .ok (.aload_n 1, 1) := dk_43 (dk_at dksX0_daysBy_0 15 rfl rfl)
theorem dX0_daysBy_16 : decode cX0_daysBy 16 = .ok (.iload_n 2, 1) := dk_28 (dk_at dksX0_daysBy_0 16 rfl rfl)
theorem dX0_daysBy_17 : decode cX0_daysBy 17 = .ok (.iload_n 3, 1) := dk_29 (dk_at dksX0_daysBy_0 17 rfl rfl)
theorem dX0_daysBy_18 : decode cX0_daysBy 18 = .ok (.iconst 3, 1) := dk_6 (dk_at dksX0_daysBy_0 18 rfl rfl)
theorem dX0_daysBy_19 : decode cX0_daysBy 19 = .ok (.iload 6, 2) := dk_21 6 (dk_at dksX0_daysBy_0 19 rfl rfl)
theorem dX0_daysBy_21 : decode cX0_daysBy 21 = .ok (.invokevirtual 467, 3) := dk_182 1 211 (dk_at dksX0_daysBy_0 21 rfl rfl)
theorem dX0_daysBy_24 : decode cX0_daysBy 24 = .ok (.ifCond .eq 14, 3) := dk_153 0 14 (dk_at dksX0_daysBy_1 0 rfl rfl)
theorem dX0_daysBy_27 : decode cX0_daysBy 27 = .ok (.iload 4, 2) := dk_21 4 (dk_at dksX0_daysBy_1 3 rfl rfl)
theorem dX0_daysBy_29 : decode cX0_daysBy 29 = .ok (.ifCond .eq 6, 3) := dk_153 0 6 (dk_at dksX0_daysBy_1 5 rfl rfl)
theorem dX0_daysBy_32 : decode cX0_daysBy 32 = .ok (.iload 6, 2) := dk_21 6 (dk_at dksX0_daysBy_1 8 rfl rfl)
theorem dX0_daysBy_34 : decode cX0_daysBy 34 = .ok (.ireturn, 1) := dk_172 (dk_at dksX0_daysBy_1 10 rfl rfl)
theorem dX0_daysBy_35 : decode cX0_daysBy 35 = .ok (.iinc 5 1, 3) := dk_132 5 1 (dk_at dksX0_daysBy_1 11 rfl rfl)
theorem dX0_daysBy_38 : decode cX0_daysBy 38 = .ok (.iinc 6 1, 3) := dk_132 6 1 (dk_at dksX0_daysBy_1 14 rfl rfl)
theorem dX0_daysBy_41 : decode cX0_daysBy 41 = .ok (.goto (-35), 3) := dk_167 255 221 (dk_at dksX0_daysBy_1 17 rfl rfl)
theorem dX0_daysBy_44 : decode cX0_daysBy 44 = .ok (.iload 4, 2) := dk_21 4 (dk_at dksX0_daysBy_1 20 rfl rfl)
theorem dX0_daysBy_46 : decode cX0_daysBy 46 = .ok (.ifCond .eq 7, 3) := dk_153 0 7 (dk_at dksX0_daysBy_2 0 rfl rfl)
theorem dX0_daysBy_49 : decode cX0_daysBy 49 = .ok (.iconst (-1), 1) := dk_2 (dk_at dksX0_daysBy_2 3 rfl rfl)
theorem dX0_daysBy_50 : decode cX0_daysBy 50 = .ok (.goto 5, 3) := dk_167 0 5 (dk_at dksX0_daysBy_2 4 rfl rfl)
theorem dX0_daysBy_53 : decode cX0_daysBy 53 = .ok (.iload 5, 2) := dk_21 5 (dk_at dksX0_daysBy_2 7 rfl rfl)
theorem dX0_daysBy_55 : decode cX0_daysBy 55 = .ok (.ireturn, 1) := dk_172 (dk_at dksX0_daysBy_2 9 rfl rfl)
abbrev cX0_textsOf : ByteArray := prog_1_method_74_code
def yX0_textsOf : MethodName := ⟨RX0, "textsOf", "(Ljava/lang/Object;II)I"⟩
def dkwX0_textsOf_3 : List UInt8 := [181, 1, 89, 25, 7, 191, 21, 5, 172]
abbrev dktX0_textsOf_3 : List UInt8 := dkwX0_textsOf_3 ++ []
def dkwX0_textsOf_2 : List UInt8 := [128, 54, 5, 132, 6, 1, 167, 255, 214, 42, 21, 4, 181, 1, 89, 167, 0, 14, 58, 7, 42, 21, 4]
abbrev dktX0_textsOf_2 : List UInt8 := dkwX0_textsOf_2 ++ dktX0_textsOf_3
def dkwX0_textsOf_1 : List UInt8 := [181, 1, 89, 21, 5, 42, 43, 28, 29, 182, 1, 200, 2, 160, 0, 10, 4, 21, 6, 120, 167, 0, 4, 3]
abbrev dktX0_textsOf_1 : List UInt8 := dkwX0_textsOf_1 ++ dktX0_textsOf_2
def dkwX0_textsOf_0 : List UInt8 := [42, 180, 1, 89, 54, 4, 3, 54, 5, 3, 54, 6, 21, 6, 42, 180, 1, 14, 162, 0, 39, 42, 21, 6]
abbrev dktX0_textsOf_0 : List UInt8 := dkwX0_textsOf_0 ++ dktX0_textsOf_1
theorem dksX0_textsOf_0 : cX0_textsOf.data.toList.drop 0 = dktX0_textsOf_0 := by decide +kernel
theorem dksX0_textsOf_1 : cX0_textsOf.data.toList.drop 24 = dktX0_textsOf_1 := dk_seg dksX0_textsOf_0 24 rfl rfl
theorem dksX0_textsOf_2 : cX0_textsOf.data.toList.drop 48 = dktX0_textsOf_2 := dk_seg dksX0_textsOf_1 24 rfl rfl
theorem dksX0_textsOf_3 : cX0_textsOf.data.toList.drop 71 = dktX0_textsOf_3 := dk_seg dksX0_textsOf_2 23 rfl rfl
theorem dX0_textsOf_0 : decode cX0_textsOf 0 = .ok (.aload_n 0, 1) := dk_42 (dk_at dksX0_textsOf_0 0 rfl rfl)
theorem dX0_textsOf_1 : decode cX0_textsOf 1 = .ok (.getfield 345, 3) := dk_180 1 89 (dk_at dksX0_textsOf_0 1 rfl rfl)
theorem dX0_textsOf_4 : decode cX0_textsOf 4 = .ok (.istore 4, 2) := dk_54 4 (dk_at dksX0_textsOf_0 4 rfl rfl)
theorem dX0_textsOf_6 : decode cX0_textsOf 6 = .ok (.iconst 0, 1) := dk_3 (dk_at dksX0_textsOf_0 6 rfl rfl)
theorem dX0_textsOf_7 : decode cX0_textsOf 7 = .ok (.istore 5, 2) := dk_54 5 (dk_at dksX0_textsOf_0 7 rfl rfl)
theorem dX0_textsOf_9 : decode cX0_textsOf 9 = .ok (.iconst 0, 1) := dk_3 (dk_at dksX0_textsOf_0 9 rfl rfl)
theorem dX0_textsOf_10 : decode cX0_textsOf 10 = .ok (.istore 6, 2) := dk_54 6 (dk_at dksX0_textsOf_0 10 rfl rfl)
theorem dX0_textsOf_12 : decode cX0_textsOf 12 = .ok (.iload 6, 2) := dk_21 6 (dk_at dksX0_textsOf_0 12 rfl rfl)
theorem dX0_textsOf_14 : decode cX0_textsOf 14 = .ok (.aload_n 0, 1) := dk_42 (dk_at dksX0_textsOf_0 14 rfl rfl)
theorem dX0_textsOf_15 : decode cX0_textsOf 15 = .ok (.getfield 270, 3) := dk_180 1 14 (dk_at dksX0_textsOf_0 15 rfl rfl)
theorem dX0_textsOf_18 : decode cX0_textsOf 18 = .ok (.if_icmp .ge 39, 3) := dk_162 0 39 (dk_at dksX0_textsOf_0 18 rfl rfl)
theorem dX0_textsOf_21 : decode cX0_textsOf 21 = .ok (.aload_n 0, 1) := dk_42 (dk_at dksX0_textsOf_0 21 rfl rfl)
theorem dX0_textsOf_22 : decode cX0_textsOf 22 = .ok (.iload 6, 2) := dk_21 6 (dk_at dksX0_textsOf_0 22 rfl rfl)
theorem dX0_textsOf_24 : decode cX0_textsOf 24 = .ok (.putfield 345, 3) := dk_181 1 89 (dk_at dksX0_textsOf_1 0 rfl rfl)
theorem dX0_textsOf_27 : decode cX0_textsOf 27 = .ok (.iload 5, 2) := dk_21 5 (dk_at dksX0_textsOf_1 3 rfl rfl)
theorem dX0_textsOf_29 : decode cX0_textsOf 29 = .ok (.aload_n 0, 1) := dk_42 (dk_at dksX0_textsOf_1 5 rfl rfl)
theorem dX0_textsOf_30 : decode cX0_textsOf 30 = .ok (.aload_n 1, 1) := dk_43 (dk_at dksX0_textsOf_1 6 rfl rfl)
theorem dX0_textsOf_31 : decode cX0_textsOf 31 = .ok (.iload_n 2, 1) := dk_28 (dk_at dksX0_textsOf_1 7 rfl rfl)
theorem dX0_textsOf_32 : decode cX0_textsOf 32 = .ok (.iload_n 3, 1) := dk_29 (dk_at dksX0_textsOf_1 8 rfl rfl)
theorem dX0_textsOf_33 : decode cX0_textsOf 33 = .ok (.invokevirtual 456, 3) := dk_182 1 200 (dk_at dksX0_textsOf_1 9 rfl rfl)
theorem dX0_textsOf_36 : decode cX0_textsOf 36 = .ok (.iconst (-1), 1) := dk_2 (dk_at dksX0_textsOf_1 12 rfl rfl)
theorem dX0_textsOf_37 : decode cX0_textsOf 37 = .ok (.if_icmp .ne 10, 3) := dk_160 0 10 (dk_at dksX0_textsOf_1 13 rfl rfl)
theorem dX0_textsOf_40 : decode cX0_textsOf 40 = .ok (.iconst 1, 1) := dk_4 (dk_at dksX0_textsOf_1 16 rfl rfl)
theorem dX0_textsOf_41 : decode cX0_textsOf 41 = .ok (.iload 6, 2) := dk_21 6 (dk_at dksX0_textsOf_1 17 rfl rfl)
theorem dX0_textsOf_43 : decode cX0_textsOf 43 = .ok (.ishl, 1) := dk_120 (dk_at dksX0_textsOf_1 19 rfl rfl)
theorem dX0_textsOf_44 : decode cX0_textsOf 44 = .ok (.goto 4, 3) := dk_167 0 4 (dk_at dksX0_textsOf_1 20 rfl rfl)
theorem dX0_textsOf_47 : decode cX0_textsOf 47 = .ok (.iconst 0, 1) := dk_3 (dk_at dksX0_textsOf_1 23 rfl rfl)
theorem dX0_textsOf_48 : decode cX0_textsOf 48 = .ok (.ior, 1) := dk_128 (dk_at dksX0_textsOf_2 0 rfl rfl)
theorem dX0_textsOf_49 : decode cX0_textsOf 49 = .ok (.istore 5, 2) := dk_54 5 (dk_at dksX0_textsOf_2 1 rfl rfl)
theorem dX0_textsOf_51 : decode cX0_textsOf 51 = .ok (.iinc 6 1, 3) := dk_132 6 1 (dk_at dksX0_textsOf_2 3 rfl rfl)
theorem dX0_textsOf_54 : decode cX0_textsOf 54 = .ok (.goto (-42), 3) := dk_167 255 214 (dk_at dksX0_textsOf_2 6 rfl rfl)
theorem dX0_textsOf_57 : decode cX0_textsOf 57 = .ok (.aload_n 0, 1) := dk_42 (dk_at dksX0_textsOf_2 9 rfl rfl)
theorem dX0_textsOf_58 : decode cX0_textsOf 58 = .ok (.iload 4, 2) := dk_21 4 (dk_at dksX0_textsOf_2 10 rfl rfl)
theorem dX0_textsOf_60 : decode cX0_textsOf 60 = .ok (.putfield 345, 3) := dk_181 1 89 (dk_at dksX0_textsOf_2 12 rfl rfl)
theorem dX0_textsOf_63 : decode cX0_textsOf 63 = .ok (.goto 14, 3) := dk_167 0 14 (dk_at dksX0_textsOf_2 15 rfl rfl)
theorem dX0_textsOf_66 : decode cX0_textsOf 66 = .ok (.astore 7, 2) := dk_58 7 (dk_at dksX0_textsOf_2 18 rfl rfl)
theorem dX0_textsOf_68 : decode cX0_textsOf 68 = .ok (.aload_n 0, 1) := dk_42 (dk_at dksX0_textsOf_2 20 rfl rfl)
theorem dX0_textsOf_69 : decode cX0_textsOf 69 = .ok (.iload 4, 2) := dk_21 4 (dk_at dksX0_textsOf_2 21 rfl rfl)
theorem dX0_textsOf_71 : decode cX0_textsOf 71 = .ok (.putfield 345, 3) := dk_181 1 89 (dk_at dksX0_textsOf_3 0 rfl rfl)
theorem dX0_textsOf_74 : decode cX0_textsOf 74 = .ok (.aload 7, 2) := dk_25 7 (dk_at dksX0_textsOf_3 3 rfl rfl)
theorem dX0_textsOf_76 : decode cX0_textsOf 76 = .ok (.athrow, 1) := dk_191 (dk_at dksX0_textsOf_3 5 rfl rfl)
theorem dX0_textsOf_77 : decode cX0_textsOf 77 = .ok (.iload 5, 2) := dk_21 5 (dk_at dksX0_textsOf_3 6 rfl rfl)
theorem dX0_textsOf_79 : decode cX0_textsOf 79 = .ok (.ireturn, 1) := dk_172 (dk_at dksX0_textsOf_3 8 rfl rfl)
abbrev cX0_film : ByteArray := prog_1_method_77_code
def yX0_film : MethodName := ⟨RX0, "film", "(III)I"⟩
def dkwX0_film_2 : List UInt8 := [42, 28, 29, 21, 4, 182, 1, 123, 182, 1, 253, 87, 132, 4, 1, 167, 255, 230, 16, 8, 172]
abbrev dktX0_film_2 : List UInt8 := dkwX0_film_2 ++ []
def dkwX0_film_1 : List UInt8 := [172, 42, 27, 4, 16, 8, 182, 1, 250, 87, 3, 54, 4, 21, 4, 16, 8, 162, 0, 25, 42, 27, 21, 4]
abbrev dktX0_film_1 : List UInt8 := dkwX0_film_1 ++ dktX0_film_2
def dkwX0_film_0 : List UInt8 := [27, 184, 1, 229, 153, 0, 18, 42, 28, 182, 0, 65, 153, 0, 10, 29, 184, 0, 59, 154, 0, 6, 16, 254]
abbrev dktX0_film_0 : List UInt8 := dkwX0_film_0 ++ dktX0_film_1
theorem dksX0_film_0 : cX0_film.data.toList.drop 0 = dktX0_film_0 := by decide +kernel
theorem dksX0_film_1 : cX0_film.data.toList.drop 24 = dktX0_film_1 := dk_seg dksX0_film_0 24 rfl rfl
theorem dksX0_film_2 : cX0_film.data.toList.drop 48 = dktX0_film_2 := dk_seg dksX0_film_1 24 rfl rfl
theorem dX0_film_0 : decode cX0_film 0 = .ok (.iload_n 1, 1) := dk_27 (dk_at dksX0_film_0 0 rfl rfl)
theorem dX0_film_1 : decode cX0_film 1 = .ok (.invokestatic 485, 3) := dk_184 1 229 (dk_at dksX0_film_0 1 rfl rfl)
theorem dX0_film_4 : decode cX0_film 4 = .ok (.ifCond .eq 18, 3) := dk_153 0 18 (dk_at dksX0_film_0 4 rfl rfl)
theorem dX0_film_7 : decode cX0_film 7 = .ok (.aload_n 0, 1) := dk_42 (dk_at dksX0_film_0 7 rfl rfl)
theorem dX0_film_8 : decode cX0_film 8 = .ok (.iload_n 2, 1) := dk_28 (dk_at dksX0_film_0 8 rfl rfl)
theorem dX0_film_9 : decode cX0_film 9 = .ok (.invokevirtual 65, 3) := dk_182 0 65 (dk_at dksX0_film_0 9 rfl rfl)
theorem dX0_film_12 : decode cX0_film 12 = .ok (.ifCond .eq 10, 3) := dk_153 0 10 (dk_at dksX0_film_0 12 rfl rfl)
theorem dX0_film_15 : decode cX0_film 15 = .ok (.iload_n 3, 1) := dk_29 (dk_at dksX0_film_0 15 rfl rfl)
theorem dX0_film_16 : decode cX0_film 16 = .ok (.invokestatic 59, 3) := dk_184 0 59 (dk_at dksX0_film_0 16 rfl rfl)
theorem dX0_film_19 : decode cX0_film 19 = .ok (.ifCond .ne 6, 3) := dk_154 0 6 (dk_at dksX0_film_0 19 rfl rfl)
theorem dX0_film_22 : decode cX0_film 22 = .ok (.bipush (-2), 2) := dk_16 254 (dk_at dksX0_film_0 22 rfl rfl)
theorem dX0_film_24 : decode cX0_film 24 = .ok (.ireturn, 1) := dk_172 (dk_at dksX0_film_1 0 rfl rfl)
theorem dX0_film_25 : decode cX0_film 25 = .ok (.aload_n 0, 1) := dk_42 (dk_at dksX0_film_1 1 rfl rfl)
theorem dX0_film_26 : decode cX0_film 26 = .ok (.iload_n 1, 1) := dk_27 (dk_at dksX0_film_1 2 rfl rfl)
theorem dX0_film_27 : decode cX0_film 27 = .ok (.iconst 1, 1) := dk_4 (dk_at dksX0_film_1 3 rfl rfl)
theorem dX0_film_28 : decode cX0_film 28 = .ok (.bipush 8, 2) := dk_16 8 (dk_at dksX0_film_1 4 rfl rfl)
theorem dX0_film_30 : decode cX0_film 30 = .ok (.invokevirtual 506, 3) := dk_182 1 250 (dk_at dksX0_film_1 6 rfl rfl)
theorem dX0_film_33 : decode cX0_film 33 = .ok (.pop, 1) := dk_87 (dk_at dksX0_film_1 9 rfl rfl)
theorem dX0_film_34 : decode cX0_film 34 = .ok (.iconst 0, 1) := dk_3 (dk_at dksX0_film_1 10 rfl rfl)
theorem dX0_film_35 : decode cX0_film 35 = .ok (.istore 4, 2) := dk_54 4 (dk_at dksX0_film_1 11 rfl rfl)
theorem dX0_film_37 : decode cX0_film 37 = .ok (.iload 4, 2) := dk_21 4 (dk_at dksX0_film_1 13 rfl rfl)
theorem dX0_film_39 : decode cX0_film 39 = .ok (.bipush 8, 2) := dk_16 8 (dk_at dksX0_film_1 15 rfl rfl)
theorem dX0_film_41 : decode cX0_film 41 = .ok (.if_icmp .ge 25, 3) := dk_162 0 25 (dk_at dksX0_film_1 17 rfl rfl)
theorem dX0_film_44 : decode cX0_film 44 = .ok (.aload_n 0, 1) := dk_42 (dk_at dksX0_film_1 20 rfl rfl)
theorem dX0_film_45 : decode cX0_film 45 = .ok (.iload_n 1, 1) := dk_27 (dk_at dksX0_film_1 21 rfl rfl)
theorem dX0_film_46 : decode cX0_film 46 = .ok (.iload 4, 2) := dk_21 4 (dk_at dksX0_film_1 22 rfl rfl)
theorem dX0_film_48 : decode cX0_film 48 = .ok (.aload_n 0, 1) := dk_42 (dk_at dksX0_film_2 0 rfl rfl)
theorem dX0_film_49 : decode cX0_film 49 = .ok (.iload_n 2, 1) := dk_28 (dk_at dksX0_film_2 1 rfl rfl)
theorem dX0_film_50 : decode cX0_film 50 = .ok (.iload_n 3, 1) := dk_29 (dk_at dksX0_film_2 2 rfl rfl)
theorem dX0_film_51 : decode cX0_film 51 = .ok (.iload 4, 2) := dk_21 4 (dk_at dksX0_film_2 3 rfl rfl)
theorem dX0_film_53 : decode cX0_film 53 = .ok (.invokevirtual 379, 3) := dk_182 1 123 (dk_at dksX0_film_2 5 rfl rfl)
theorem dX0_film_56 : decode cX0_film 56 = .ok (.invokevirtual 509, 3) := dk_182 1 253 (dk_at dksX0_film_2 8 rfl rfl)
theorem dX0_film_59 : decode cX0_film 59 = .ok (.pop, 1) := dk_87 (dk_at dksX0_film_2 11 rfl rfl)
theorem dX0_film_60 : decode cX0_film 60 = .ok (.iinc 4 1, 3) := dk_132 4 1 (dk_at dksX0_film_2 12 rfl rfl)
theorem dX0_film_63 : decode cX0_film 63 = .ok (.goto (-26), 3) := dk_167 255 230 (dk_at dksX0_film_2 15 rfl rfl)
theorem dX0_film_66 : decode cX0_film 66 = .ok (.bipush 8, 2) := dk_16 8 (dk_at dksX0_film_2 18 rfl rfl)
theorem dX0_film_68 : decode cX0_film 68 = .ok (.ireturn, 1) := dk_172 (dk_at dksX0_film_2 20 rfl rfl)
abbrev cX0_sheet : ByteArray := prog_1_method_90_code
def yX0_sheet : MethodName := ⟨RX0, "sheet", "(III)I"⟩
def dkwX0_sheet_3 : List UInt8 := [16, 242, 172]
abbrev dktX0_sheet_3 : List UInt8 := dkwX0_sheet_3 ++ []
def dkwX0_sheet_2 : List UInt8 := [181, 1, 236, 4, 172, 42, 180, 1, 76, 27, 50, 28, 29, 184, 2, 31, 181, 1, 236, 4, 172, 58, 4]
abbrev dktX0_sheet_2 : List UInt8 := dkwX0_sheet_2 ++ dktX0_sheet_3
def dkwX0_sheet_1 : List UInt8 := [159, 0, 12, 29, 16, 40, 164, 0, 6, 16, 254, 172, 28, 2, 160, 0, 15, 42, 180, 1, 76, 27, 50, 1]
abbrev dktX0_sheet_1 : List UInt8 := dkwX0_sheet_1 ++ dktX0_sheet_2
def dkwX0_sheet_0 : List UInt8 := [27, 184, 1, 229, 153, 0, 28, 28, 133, 20, 2, 29, 20, 0, 125, 184, 0, 14, 153, 0, 14, 28, 2]
abbrev dktX0_sheet_0 : List UInt8 := dkwX0_sheet_0 ++ dktX0_sheet_1
theorem dksX0_sheet_0 : cX0_sheet.data.toList.drop 0 = dktX0_sheet_0 := by decide +kernel
theorem dksX0_sheet_1 : cX0_sheet.data.toList.drop 23 = dktX0_sheet_1 := dk_seg dksX0_sheet_0 23 rfl rfl
theorem dksX0_sheet_2 : cX0_sheet.data.toList.drop 47 = dktX0_sheet_2 := dk_seg dksX0_sheet_1 24 rfl rfl
theorem dksX0_sheet_3 : cX0_sheet.data.toList.drop 70 = dktX0_sheet_3 := dk_seg dksX0_sheet_2 23 rfl rfl
theorem dX0_sheet_0 : decode cX0_sheet 0 = .ok (.iload_n 1, 1) := dk_27 (dk_at dksX0_sheet_0 0 rfl rfl)
theorem dX0_sheet_1 : decode cX0_sheet 1 = .ok (.invokestatic 485, 3) := dk_184 1 229 (dk_at dksX0_sheet_0 1 rfl rfl)
theorem dX0_sheet_4 : decode cX0_sheet 4 = .ok (.ifCond .eq 28, 3) := dk_153 0 28 (dk_at dksX0_sheet_0 4 rfl rfl)
theorem dX0_sheet_7 : decode cX0_sheet 7 = .ok (.iload_n 2, 1) := dk_28 (dk_at dksX0_sheet_0 7 rfl rfl)
theorem dX0_sheet_8 : decode cX0_sheet 8 = .ok (.i2l, 1) := dk_133 (dk_at dksX0_sheet_0 8 rfl rfl)
theorem dX0_sheet_9 : decode cX0_sheet 9 = .ok (.ldc2_w 541, 3) := dk_20 2 29 (dk_at dksX0_sheet_0 9 rfl rfl)
theorem dX0_sheet_12 : decode cX0_sheet 12 = .ok (.ldc2_w 125, 3) := dk_20 0 125 (dk_at dksX0_sheet_0 12 rfl rfl)
theorem dX0_sheet_15 : decode cX0_sheet 15 = .ok (.invokestatic 14, 3) := dk_184 0 14 (dk_at dksX0_sheet_0 15 rfl rfl)
theorem dX0_sheet_18 : decode cX0_sheet 18 = .ok (.ifCond .eq 14, 3) := dk_153 0 14 (dk_at dksX0_sheet_0 18 rfl rfl)
theorem dX0_sheet_21 : decode cX0_sheet 21 = .ok (.iload_n 2, 1) := dk_28 (dk_at dksX0_sheet_0 21 rfl rfl)
theorem dX0_sheet_22 : decode cX0_sheet 22 = .ok (.iconst (-1), 1) := dk_2 (dk_at dksX0_sheet_0 22 rfl rfl)
theorem dX0_sheet_23 : decode cX0_sheet 23 = .ok (.if_icmp .eq 12, 3) := dk_159 0 12 (dk_at dksX0_sheet_1 0 rfl rfl)
theorem dX0_sheet_26 : decode cX0_sheet 26 = .ok (.iload_n 3, 1) := dk_29 (dk_at dksX0_sheet_1 3 rfl rfl)
theorem dX0_sheet_27 : decode cX0_sheet 27 = .ok (.bipush 40, 2) := dk_16 40 (dk_at dksX0_sheet_1 4 rfl rfl)
theorem dX0_sheet_29 : decode cX0_sheet 29 = .ok (.if_icmp .le 6, 3) := dk_164 0 6 (dk_at dksX0_sheet_1 6 rfl rfl)
theorem dX0_sheet_32 : decode cX0_sheet 32 = .ok (.bipush (-2), 2) := dk_16 254 (dk_at dksX0_sheet_1 9 rfl rfl)
theorem dX0_sheet_34 : decode cX0_sheet 34 = .ok (.ireturn, 1) := dk_172 (dk_at dksX0_sheet_1 11 rfl rfl)
theorem dX0_sheet_35 : decode cX0_sheet 35 = .ok (.iload_n 2, 1) := dk_28 (dk_at dksX0_sheet_1 12 rfl rfl)
theorem dX0_sheet_36 : decode cX0_sheet 36 = .ok (.iconst (-1), 1) := dk_2 (dk_at dksX0_sheet_1 13 rfl rfl)
theorem dX0_sheet_37 : decode cX0_sheet 37 = .ok (.if_icmp .ne 15, 3) := dk_160 0 15 (dk_at dksX0_sheet_1 14 rfl rfl)
theorem dX0_sheet_40 : decode cX0_sheet 40 = .ok (.aload_n 0, 1) := dk_42 (dk_at dksX0_sheet_1 17 rfl rfl)
theorem dX0_sheet_41 : decode cX0_sheet 41 = .ok (.getfield 332, 3) := dk_180 1 76 (dk_at dksX0_sheet_1 18 rfl rfl)
theorem dX0_sheet_44 : decode cX0_sheet 44 = .ok (.iload_n 1, 1) := dk_27 (dk_at dksX0_sheet_1 21 rfl rfl)
theorem dX0_sheet_45 : decode cX0_sheet 45 = .ok (.aaload, 1) := dk_50 (dk_at dksX0_sheet_1 22 rfl rfl)
theorem dX0_sheet_46 : decode cX0_sheet 46 = .ok (.aconst_null, 1) := dk_1 (dk_at dksX0_sheet_1 23 rfl rfl)
theorem dX0_sheet_47 : decode cX0_sheet 47 = .ok (.putfield 492, 3) := dk_181 1 236 (dk_at dksX0_sheet_2 0 rfl rfl)
theorem dX0_sheet_50 : decode cX0_sheet 50 = .ok (.iconst 1, 1) := dk_4 (dk_at dksX0_sheet_2 3 rfl rfl)
theorem dX0_sheet_51 : decode cX0_sheet 51 = .ok (.ireturn, 1) := dk_172 (dk_at dksX0_sheet_2 4 rfl rfl)
theorem dX0_sheet_52 : decode cX0_sheet 52 = .ok (.aload_n 0, 1) := dk_42 (dk_at dksX0_sheet_2 5 rfl rfl)
theorem dX0_sheet_53 : decode cX0_sheet 53 = .ok (.getfield 332, 3) := dk_180 1 76 (dk_at dksX0_sheet_2 6 rfl rfl)
theorem dX0_sheet_56 : decode cX0_sheet 56 = .ok (.iload_n 1, 1) := dk_27 (dk_at dksX0_sheet_2 9 rfl rfl)
theorem dX0_sheet_57 : decode cX0_sheet 57 = .ok (.aaload, 1) := dk_50 (dk_at dksX0_sheet_2 10 rfl rfl)
theorem dX0_sheet_58 : decode cX0_sheet 58 = .ok (.iload_n 2, 1) := dk_28 (dk_at dksX0_sheet_2 11 rfl rfl)
theorem dX0_sheet_59 : decode cX0_sheet 59 = .ok (.iload_n 3, 1) := dk_29 (dk_at dksX0_sheet_2 12 rfl rfl)
theorem dX0_sheet_60 : decode cX0_sheet 60 = .ok (.invokestatic 543, 3) := dk_184 2 31 (dk_at dksX0_sheet_2 13 rfl rfl)
theorem dX0_sheet_63 : decode cX0_sheet 63 = .ok (.putfield 492, 3) := dk_181 1 236 (dk_at dksX0_sheet_2 16 rfl rfl)
theorem dX0_sheet_66 : decode cX0_sheet 66 = .ok (.iconst 1, 1) := dk_4 (dk_at dksX0_sheet_2 19 rfl rfl)
theorem dX0_sheet_67 : decode cX0_sheet 67 = .ok (.ireturn, 1) := dk_172 (dk_at dksX0_sheet_2 20 rfl rfl)
theorem dX0_sheet_68 : decode cX0_sheet 68 = .ok (.astore 4, 2) := dk_58 4 (dk_at dksX0_sheet_2 21 rfl rfl)
theorem dX0_sheet_70 : decode cX0_sheet 70 = .ok (.bipush (-14), 2) := dk_16 242 (dk_at dksX0_sheet_3 0 rfl rfl)
theorem dX0_sheet_72 : decode cX0_sheet 72 = .ok (.ireturn, 1) := dk_172 (dk_at dksX0_sheet_3 2 rfl rfl)
abbrev cX0_rowOf : ByteArray := prog_1_method_89_code
def yX0_rowOf : MethodName := ⟨RX0, "rowOf", "(II)Ljava/lang/Object;"⟩
def dkwX0_rowOf_2 : List UInt8 := [27, 188, 8, 176, 27, 188, 9, 176, 27, 188, 10, 176]
abbrev dktX0_rowOf_2 : List UInt8 := dkwX0_rowOf_2 ++ []
def dkwX0_rowOf_1 : List UInt8 := [171, 0, 0, 0, 0, 0, 35, 0, 0, 0, 2, 0, 0, 0, 0, 0, 0, 0, 27, 0, 0, 0, 1, 0, 0, 0, 31]
abbrev dktX0_rowOf_1 : List UInt8 := dkwX0_rowOf_1 ++ dktX0_rowOf_2
def dkwX0_rowOf_0 : List UInt8 := [26]
abbrev dktX0_rowOf_0 : List UInt8 := dkwX0_rowOf_0 ++ dktX0_rowOf_1
theorem dksX0_rowOf_0 : cX0_rowOf.data.toList.drop 0 = dktX0_rowOf_0 := by decide +kernel
theorem dksX0_rowOf_1 : cX0_rowOf.data.toList.drop 1 = dktX0_rowOf_1 := dk_seg dksX0_rowOf_0 1 rfl rfl
theorem dksX0_rowOf_2 : cX0_rowOf.data.toList.drop 28 = dktX0_rowOf_2 := dk_seg dksX0_rowOf_1 27 rfl rfl
theorem dX0_rowOf_0 : decode cX0_rowOf 0 = .ok (.iload_n 0, 1) := dk_26 (dk_at dksX0_rowOf_0 0 rfl rfl)
theorem dX0_rowOf_1 : decode cX0_rowOf 1 = .ok (.lookupswitch 35 #[(0, 27), (1, 31)], 27) := by decide +kernel
theorem dX0_rowOf_28 : decode cX0_rowOf 28 = .ok (.iload_n 1, 1) := dk_27 (dk_at dksX0_rowOf_2 0 rfl rfl)
theorem dX0_rowOf_29 : decode cX0_rowOf 29 = .ok (.newarray .byte, 2) := dk_188_8 (dk_at dksX0_rowOf_2 1 rfl rfl)
theorem dX0_rowOf_31 : decode cX0_rowOf 31 = .ok (.areturn, 1) := dk_176 (dk_at dksX0_rowOf_2 3 rfl rfl)
theorem dX0_rowOf_32 : decode cX0_rowOf 32 = .ok (.iload_n 1, 1) := dk_27 (dk_at dksX0_rowOf_2 4 rfl rfl)
theorem dX0_rowOf_33 : decode cX0_rowOf 33 = .ok (.newarray .short, 2) := dk_188_9 (dk_at dksX0_rowOf_2 5 rfl rfl)
theorem dX0_rowOf_35 : decode cX0_rowOf 35 = .ok (.areturn, 1) := dk_176 (dk_at dksX0_rowOf_2 7 rfl rfl)
theorem dX0_rowOf_36 : decode cX0_rowOf 36 = .ok (.iload_n 1, 1) := dk_27 (dk_at dksX0_rowOf_2 8 rfl rfl)
theorem dX0_rowOf_37 : decode cX0_rowOf 37 = .ok (.newarray .int, 2) := dk_188_10 (dk_at dksX0_rowOf_2 9 rfl rfl)
theorem dX0_rowOf_39 : decode cX0_rowOf 39 = .ok (.areturn, 1) := dk_176 (dk_at dksX0_rowOf_2 11 rfl rfl)
abbrev cX0_cell : ByteArray := prog_1_method_92_code
def yX0_cell : MethodName := ⟨RX0, "cell", "(III)I"⟩
def dkwX0_cell_1 : List UInt8 := [172, 58, 4, 16, 245, 172, 58, 4, 16, 244, 172]
abbrev dktX0_cell_1 : List UInt8 := dkwX0_cell_1 ++ []
def dkwX0_cell_0 : List UInt8 := [27, 184, 1, 229, 154, 0, 6, 16, 254, 172, 42, 180, 1, 76, 27, 50, 180, 1, 236, 28, 29, 184, 2, 44]
abbrev dktX0_cell_0 : List UInt8 := dkwX0_cell_0 ++ dktX0_cell_1
theorem dksX0_cell_0 : cX0_cell.data.toList.drop 0 = dktX0_cell_0 := by decide +kernel
theorem dksX0_cell_1 : cX0_cell.data.toList.drop 24 = dktX0_cell_1 := dk_seg dksX0_cell_0 24 rfl rfl
theorem dX0_cell_0 : decode cX0_cell 0 = .ok (.iload_n 1, 1) := dk_27 (dk_at dksX0_cell_0 0 rfl rfl)
theorem dX0_cell_1 : decode cX0_cell 1 = .ok (.invokestatic 485, 3) := dk_184 1 229 (dk_at dksX0_cell_0 1 rfl rfl)
theorem dX0_cell_4 : decode cX0_cell 4 = .ok (.ifCond .ne 6, 3) := dk_154 0 6 (dk_at dksX0_cell_0 4 rfl rfl)
theorem dX0_cell_7 : decode cX0_cell 7 = .ok (.bipush (-2), 2) := dk_16 254 (dk_at dksX0_cell_0 7 rfl rfl)
theorem dX0_cell_9 : decode cX0_cell 9 = .ok (.ireturn, 1) := dk_172 (dk_at dksX0_cell_0 9 rfl rfl)
theorem dX0_cell_10 : decode cX0_cell 10 = .ok (.aload_n 0, 1) := dk_42 (dk_at dksX0_cell_0 10 rfl rfl)
theorem dX0_cell_11 : decode cX0_cell 11 = .ok (.getfield 332, 3) := dk_180 1 76 (dk_at dksX0_cell_0 11 rfl rfl)
theorem dX0_cell_14 : decode cX0_cell 14 = .ok (.iload_n 1, 1) := dk_27 (dk_at dksX0_cell_0 14 rfl rfl)
theorem dX0_cell_15 : decode cX0_cell 15 = .ok (.aaload, 1) := dk_50 (dk_at dksX0_cell_0 15 rfl rfl)
theorem dX0_cell_16 : decode cX0_cell 16 = .ok (.getfield 492, 3) := dk_180 1 236 (dk_at dksX0_cell_0 16 rfl rfl)
theorem dX0_cell_19 : decode cX0_cell 19 = .ok (.iload_n 2, 1) := dk_28 (dk_at dksX0_cell_0 19 rfl rfl)
theorem dX0_cell_20 : decode cX0_cell 20 = .ok (.iload_n 3, 1) := dk_29 (dk_at dksX0_cell_0 20 rfl rfl)
theorem dX0_cell_21 : decode cX0_cell 21 = .ok (.invokestatic 556, 3) := dk_184 2 44 (dk_at dksX0_cell_0 21 rfl rfl)
theorem dX0_cell_24 : decode cX0_cell 24 = .ok (.ireturn, 1) := dk_172 (dk_at dksX0_cell_1 0 rfl rfl)
theorem dX0_cell_25 : decode cX0_cell 25 = .ok (.astore 4, 2) := dk_58 4 (dk_at dksX0_cell_1 1 rfl rfl)
theorem dX0_cell_27 : decode cX0_cell 27 = .ok (.bipush (-11), 2) := dk_16 245 (dk_at dksX0_cell_1 3 rfl rfl)
theorem dX0_cell_29 : decode cX0_cell 29 = .ok (.ireturn, 1) := dk_172 (dk_at dksX0_cell_1 5 rfl rfl)
theorem dX0_cell_30 : decode cX0_cell 30 = .ok (.astore 4, 2) := dk_58 4 (dk_at dksX0_cell_1 6 rfl rfl)
theorem dX0_cell_32 : decode cX0_cell 32 = .ok (.bipush (-12), 2) := dk_16 244 (dk_at dksX0_cell_1 8 rfl rfl)
theorem dX0_cell_34 : decode cX0_cell 34 = .ok (.ireturn, 1) := dk_172 (dk_at dksX0_cell_1 10 rfl rfl)
abbrev cX0_put : ByteArray := prog_1_method_91_code
def yX0_put : MethodName := ⟨RX0, "put", "(Ljava/lang/Object;II)I"⟩
def dkwX0_put_2 : List UInt8 := [28, 147, 86, 167, 0, 19, 27, 42, 192, 2, 43, 190, 184, 2, 38, 42, 192, 2, 43, 27, 28, 79, 4, 172]
abbrev dktX0_put_2 : List UInt8 := dkwX0_put_2 ++ []
def dkwX0_put_1 : List UInt8 := [167, 0, 46, 42, 193, 2, 41, 153, 0, 23, 27, 42, 192, 2, 41, 190, 184, 2, 38, 42, 192, 2, 41, 27]
abbrev dktX0_put_1 : List UInt8 := dkwX0_put_1 ++ dktX0_put_2
def dkwX0_put_0 : List UInt8 := [42, 193, 2, 37, 153, 0, 23, 27, 42, 192, 2, 37, 190, 184, 2, 38, 42, 192, 2, 37, 27, 28, 145, 84]
abbrev dktX0_put_0 : List UInt8 := dkwX0_put_0 ++ dktX0_put_1
theorem dksX0_put_0 : cX0_put.data.toList.drop 0 = dktX0_put_0 := by decide +kernel
theorem dksX0_put_1 : cX0_put.data.toList.drop 24 = dktX0_put_1 := dk_seg dksX0_put_0 24 rfl rfl
theorem dksX0_put_2 : cX0_put.data.toList.drop 48 = dktX0_put_2 := dk_seg dksX0_put_1 24 rfl rfl
theorem dX0_put_0 : decode cX0_put 0 = .ok (.aload_n 0, 1) := dk_42 (dk_at dksX0_put_0 0 rfl rfl)
theorem dX0_put_1 : decode cX0_put 1 = .ok (.instanceof 549, 3) := dk_193 2 37 (dk_at dksX0_put_0 1 rfl rfl)
theorem dX0_put_4 : decode cX0_put 4 = .ok (.ifCond .eq 23, 3) := dk_153 0 23 (dk_at dksX0_put_0 4 rfl rfl)
theorem dX0_put_7 : decode cX0_put 7 = .ok (.iload_n 1, 1) := dk_27 (dk_at dksX0_put_0 7 rfl rfl)
theorem dX0_put_8 : decode cX0_put 8 = .ok (.aload_n 0, 1) := dk_42 (dk_at dksX0_put_0 8 rfl rfl)
theorem dX0_put_9 : decode cX0_put 9 = .ok (.checkcast 549, 3) := dk_192 2 37 (dk_at dksX0_put_0 9 rfl rfl)
theorem dX0_put_12 : decode cX0_put 12 = .ok (.arraylength, 1) := dk_190 (dk_at dksX0_put_0 12 rfl rfl)
theorem dX0_put_13 : decode cX0_put 13 = .ok (.invokestatic 550, 3) := dk_184 2 38 (dk_at dksX0_put_0 13 rfl rfl)
theorem dX0_put_16 : decode cX0_put 16 = .ok (.aload_n 0, 1) := dk_42 (dk_at dksX0_put_0 16 rfl rfl)
theorem dX0_put_17 : decode cX0_put 17 = .ok (.checkcast 549, 3) := dk_192 2 37 (dk_at dksX0_put_0 17 rfl rfl)
theorem dX0_put_20 : decode cX0_put 20 = .ok (.iload_n 1, 1) := dk_27 (dk_at dksX0_put_0 20 rfl rfl)
theorem dX0_put_21 : decode cX0_put 21 = .ok (.iload_n 2, 1) := dk_28 (dk_at dksX0_put_0 21 rfl rfl)
theorem dX0_put_22 : decode cX0_put 22 = .ok (.i2b, 1) := dk_145 (dk_at dksX0_put_0 22 rfl rfl)
theorem dX0_put_23 : decode cX0_put 23 = .ok (.bastore, 1) := dk_84 (dk_at dksX0_put_0 23 rfl rfl)
theorem dX0_put_24 : decode cX0_put 24 = .ok (.goto 46, 3) := dk_167 0 46 (dk_at dksX0_put_1 0 rfl rfl)
theorem dX0_put_27 : decode cX0_put 27 = .ok (.aload_n 0, 1) := dk_42 (dk_at dksX0_put_1 3 rfl rfl)
theorem dX0_put_28 : decode cX0_put 28 = .ok (.instanceof 553, 3) := dk_193 2 41 (dk_at dksX0_put_1 4 rfl rfl)
theorem dX0_put_31 : decode cX0_put 31 = .ok (.ifCond .eq 23, 3) := dk_153 0 23 (dk_at dksX0_put_1 7 rfl rfl)
theorem dX0_put_34 : decode cX0_put 34 = .ok (.iload_n 1, 1) := dk_27 (dk_at dksX0_put_1 10 rfl rfl)
theorem dX0_put_35 : decode cX0_put 35 = .ok (.aload_n 0, 1) := dk_42 (dk_at dksX0_put_1 11 rfl rfl)
theorem dX0_put_36 : decode cX0_put 36 = .ok (.checkcast 553, 3) := dk_192 2 41 (dk_at dksX0_put_1 12 rfl rfl)
theorem dX0_put_39 : decode cX0_put 39 = .ok (.arraylength, 1) := dk_190 (dk_at dksX0_put_1 15 rfl rfl)
theorem dX0_put_40 : decode cX0_put 40 = .ok (.invokestatic 550, 3) := dk_184 2 38 (dk_at dksX0_put_1 16 rfl rfl)
theorem dX0_put_43 : decode cX0_put 43 = .ok (.aload_n 0, 1) := dk_42 (dk_at dksX0_put_1 19 rfl rfl)
theorem dX0_put_44 : decode cX0_put 44 = .ok (.checkcast 553, 3) := dk_192 2 41 (dk_at dksX0_put_1 20 rfl rfl)
theorem dX0_put_47 : decode cX0_put 47 = .ok (.iload_n 1, 1) := dk_27 (dk_at dksX0_put_1 23 rfl rfl)
theorem dX0_put_48 : decode cX0_put 48 = .ok (.iload_n 2, 1) := dk_28 (dk_at dksX0_put_2 0 rfl rfl)
theorem dX0_put_49 : decode cX0_put 49 = .ok (.i2s, 1) := dk_147 (dk_at dksX0_put_2 1 rfl rfl)
theorem dX0_put_50 : decode cX0_put 50 = .ok (.sastore, 1) := dk_86 (dk_at dksX0_put_2 2 rfl rfl)
theorem dX0_put_51 : decode cX0_put 51 = .ok (.goto 19, 3) := dk_167 0 19 (dk_at dksX0_put_2 3 rfl rfl)
theorem dX0_put_54 : decode cX0_put 54 = .ok (.iload_n 1, 1) := dk_27 (dk_at dksX0_put_2 6 rfl rfl)
theorem dX0_put_55 : decode cX0_put 55 = .ok (.aload_n 0, 1) := dk_42 (dk_at dksX0_put_2 7 rfl rfl)
theorem dX0_put_56 : decode cX0_put 56 = .ok (.checkcast 555, 3) := dk_192 2 43 (dk_at dksX0_put_2 8 rfl rfl)
theorem dX0_put_59 : decode cX0_put 59 = .ok (.arraylength, 1) := dk_190 (dk_at dksX0_put_2 11 rfl rfl)
theorem dX0_put_60 : decode cX0_put 60 = .ok (.invokestatic 550, 3) := dk_184 2 38 (dk_at dksX0_put_2 12 rfl rfl)
theorem dX0_put_63 : decode cX0_put 63 = .ok (.aload_n 0, 1) := dk_42 (dk_at dksX0_put_2 15 rfl rfl)
theorem dX0_put_64 : decode cX0_put 64 = .ok (.checkcast 555, 3) := dk_192 2 43 (dk_at dksX0_put_2 16 rfl rfl)
theorem dX0_put_67 : decode cX0_put 67 = .ok (.iload_n 1, 1) := dk_27 (dk_at dksX0_put_2 19 rfl rfl)
theorem dX0_put_68 : decode cX0_put 68 = .ok (.iload_n 2, 1) := dk_28 (dk_at dksX0_put_2 20 rfl rfl)
theorem dX0_put_69 : decode cX0_put 69 = .ok (.iastore, 1) := dk_79 (dk_at dksX0_put_2 21 rfl rfl)
theorem dX0_put_70 : decode cX0_put 70 = .ok (.iconst 1, 1) := dk_4 (dk_at dksX0_put_2 22 rfl rfl)
theorem dX0_put_71 : decode cX0_put 71 = .ok (.ireturn, 1) := dk_172 (dk_at dksX0_put_2 23 rfl rfl)
abbrev cX0_drawn : ByteArray := prog_1_method_80_code
def yX0_drawn : MethodName := ⟨RX0, "drawn", "(I)I"⟩
def dkwX0_drawn_0 : List UInt8 := [42, 27, 182, 2, 1, 42, 182, 1, 133, 61, 42, 182, 2, 4, 28, 172, 78, 42, 182, 2, 4, 45, 191]
abbrev dktX0_drawn_0 : List UInt8 := dkwX0_drawn_0 ++ []
theorem dksX0_drawn_0 : cX0_drawn.data.toList.drop 0 = dktX0_drawn_0 := by decide +kernel
theorem dX0_drawn_0 : decode cX0_drawn 0 = .ok (.aload_n 0, 1) := dk_42 (dk_at dksX0_drawn_0 0 rfl rfl)
theorem dX0_drawn_1 : decode cX0_drawn 1 = .ok (.iload_n 1, 1) := dk_27 (dk_at dksX0_drawn_0 1 rfl rfl)
theorem dX0_drawn_2 : decode cX0_drawn 2 = .ok (.invokevirtual 513, 3) := dk_182 2 1 (dk_at dksX0_drawn_0 2 rfl rfl)
theorem dX0_drawn_5 : decode cX0_drawn 5 = .ok (.aload_n 0, 1) := dk_42 (dk_at dksX0_drawn_0 5 rfl rfl)
theorem dX0_drawn_6 : decode cX0_drawn 6 = .ok (.invokevirtual 389, 3) := dk_182 1 133 (dk_at dksX0_drawn_0 6 rfl rfl)
theorem dX0_drawn_9 : decode cX0_drawn 9 = .ok (.istore_n 2, 1) := dk_61 (dk_at dksX0_drawn_0 9 rfl rfl)
theorem dX0_drawn_10 : decode cX0_drawn 10 = .ok (.aload_n 0, 1) := dk_42 (dk_at dksX0_drawn_0 10 rfl rfl)
theorem dX0_drawn_11 : decode cX0_drawn 11 = .ok (.invokevirtual 516, 3) := dk_182 2 4 (dk_at dksX0_drawn_0 11 rfl rfl)
theorem dX0_drawn_14 : decode cX0_drawn 14 = .ok (.iload_n 2, 1) := dk_28 (dk_at dksX0_drawn_0 14 rfl rfl)
theorem dX0_drawn_15 : decode cX0_drawn 15 = .ok (.ireturn, 1) := dk_172 (dk_at dksX0_drawn_0 15 rfl rfl)
theorem dX0_drawn_16 : decode cX0_drawn 16 = .ok (.astore_n 3, 1) := dk_78 (dk_at dksX0_drawn_0 16 rfl rfl)
theorem dX0_drawn_17 : decode cX0_drawn 17 = .ok (.aload_n 0, 1) := dk_42 (dk_at dksX0_drawn_0 17 rfl rfl)
theorem dX0_drawn_18 : decode cX0_drawn 18 = .ok (.invokevirtual 516, 3) := dk_182 2 4 (dk_at dksX0_drawn_0 18 rfl rfl)
theorem dX0_drawn_21 : decode cX0_drawn 21 = .ok (.aload_n 3, 1) := dk_45 (dk_at dksX0_drawn_0 21 rfl rfl)
theorem dX0_drawn_22 : decode cX0_drawn 22 = .ok (.athrow, 1) := dk_191 (dk_at dksX0_drawn_0 22 rfl rfl)
abbrev cX0_drawsDays : ByteArray := prog_1_method_78_code
def yX0_drawsDays : MethodName := ⟨RX0, "drawsDays", "(I)V"⟩
def dkwX0_drawsDays_2 : List UInt8 := [17, 1, 109, 112, 181, 0, 78, 132, 3, 1, 167, 255, 203, 177]
abbrev dktX0_drawsDays_2 : List UInt8 := dkwX0_drawsDays_2 ++ []
def dkwX0_drawsDays_1 : List UInt8 := [180, 1, 61, 29, 42, 180, 0, 49, 29, 50, 180, 0, 78, 79, 42, 180, 0, 49, 29, 50, 28, 16, 9, 124]
abbrev dktX0_drawsDays_1 : List UInt8 := dkwX0_drawsDays_1 ++ dktX0_drawsDays_2
def dkwX0_drawsDays_0 : List UInt8 := [27, 61, 3, 62, 29, 42, 180, 0, 18, 162, 0, 51, 28, 19, 2, 0, 104, 17, 48, 57, 96, 61, 42]
abbrev dktX0_drawsDays_0 : List UInt8 := dkwX0_drawsDays_0 ++ dktX0_drawsDays_1
theorem dksX0_drawsDays_0 : cX0_drawsDays.data.toList.drop 0 = dktX0_drawsDays_0 := by decide +kernel
theorem dksX0_drawsDays_1 : cX0_drawsDays.data.toList.drop 23 = dktX0_drawsDays_1 := dk_seg dksX0_drawsDays_0 23 rfl rfl
theorem dksX0_drawsDays_2 : cX0_drawsDays.data.toList.drop 47 = dktX0_drawsDays_2 := dk_seg dksX0_drawsDays_1 24 rfl rfl
theorem dX0_drawsDays_0 : decode cX0_drawsDays 0 = .ok (.iload_n 1, 1) := dk_27 (dk_at dksX0_drawsDays_0 0 rfl rfl)
theorem dX0_drawsDays_1 : decode cX0_drawsDays 1 = .ok (.istore_n 2, 1) := dk_61 (dk_at dksX0_drawsDays_0 1 rfl rfl)
theorem dX0_drawsDays_2 : decode cX0_drawsDays 2 = .ok (.iconst 0, 1) := dk_3 (dk_at dksX0_drawsDays_0 2 rfl rfl)
theorem dX0_drawsDays_3 : decode cX0_drawsDays 3 = .ok (.istore_n 3, 1) := dk_62 (dk_at dksX0_drawsDays_0 3 rfl rfl)
theorem dX0_drawsDays_4 : decode cX0_drawsDays 4 = .ok (.iload_n 3, 1) := dk_29 (dk_at dksX0_drawsDays_0 4 rfl rfl)
theorem dX0_drawsDays_5 : decode cX0_drawsDays 5 = .ok (.aload_n 0, 1) := dk_42 (dk_at dksX0_drawsDays_0 5 rfl rfl)
theorem dX0_drawsDays_6 : decode cX0_drawsDays 6 = .ok (.getfield 18, 3) := dk_180 0 18 (dk_at dksX0_drawsDays_0 6 rfl rfl)
theorem dX0_drawsDays_9 : decode cX0_drawsDays 9 = .ok (.if_icmp .ge 51, 3) := dk_162 0 51 (dk_at dksX0_drawsDays_0 9 rfl rfl)
theorem dX0_drawsDays_12 : decode cX0_drawsDays 12 = .ok (.iload_n 2, 1) := dk_28 (dk_at dksX0_drawsDays_0 12 rfl rfl)
theorem dX0_drawsDays_13 : decode cX0_drawsDays 13 = .ok (.ldc_w 512, 3) := dk_19 2 0 (dk_at dksX0_drawsDays_0 13 rfl rfl)
theorem dX0_drawsDays_16 : decode cX0_drawsDays 16 = .ok (.imul, 1) := dk_104 (dk_at dksX0_drawsDays_0 16 rfl rfl)
theorem dX0_drawsDays_17 : decode cX0_drawsDays 17 = .ok (.sipush 12345, 3) := dk_17 48 57 (dk_at dksX0_drawsDays_0 17 rfl rfl)
theorem dX0_drawsDays_20 : decode cX0_drawsDays 20 = .ok (.iadd, 1) := dk_96 (dk_at dksX0_drawsDays_0 20 rfl rfl)
theorem dX0_drawsDays_21 : decode cX0_drawsDays 21 = .ok (.istore_n 2, 1) := dk_61 (dk_at dksX0_drawsDays_0 21 rfl rfl)
theorem dX0_drawsDays_22 : decode cX0_drawsDays 22 = .ok (.aload_n 0, 1) := dk_42 (dk_at dksX0_drawsDays_0 22 rfl rfl)
theorem dX0_drawsDays_23 : decode cX0_drawsDays 23 = .ok (.getfield 317, 3) := dk_180 1 61 (dk_at dksX0_drawsDays_1 0 rfl rfl)
theorem dX0_drawsDays_26 : decode cX0_drawsDays 26 = .ok (.iload_n 3, 1) := dk_29 (dk_at dksX0_drawsDays_1 3 rfl rfl)
theorem dX0_drawsDays_27 : decode cX0_drawsDays 27 = .ok (.aload_n 0, 1) := dk_42 (dk_at dksX0_drawsDays_1 4 rfl rfl)
theorem dX0_drawsDays_28 : decode cX0_drawsDays 28 = .ok (.getfield 49, 3) := dk_180 0 49 (dk_at dksX0_drawsDays_1 5 rfl rfl)
theorem dX0_drawsDays_31 : decode cX0_drawsDays 31 = .ok (.iload_n 3, 1) := dk_29 (dk_at dksX0_drawsDays_1 8 rfl rfl)
theorem dX0_drawsDays_32 : decode cX0_drawsDays 32 = .ok (.aaload, 1) := dk_50 (dk_at dksX0_drawsDays_1 9 rfl rfl)
theorem dX0_drawsDays_33 : decode cX0_drawsDays 33 = .ok (.getfield 78, 3) := dk_180 0 78 (dk_at dksX0_drawsDays_1 10 rfl rfl)
theorem dX0_drawsDays_36 : decode cX0_drawsDays 36 = .ok (.iastore, 1) := dk_79 (dk_at dksX0_drawsDays_1 13 rfl rfl)
theorem dX0_drawsDays_37 : decode cX0_drawsDays 37 = .ok (.aload_n 0, 1) := dk_42 (dk_at dksX0_drawsDays_1 14 rfl rfl)
theorem dX0_drawsDays_38 : decode cX0_drawsDays 38 = .ok (.getfield 49, 3) := dk_180 0 49 (dk_at dksX0_drawsDays_1 15 rfl rfl)
theorem dX0_drawsDays_41 : decode cX0_drawsDays 41 = .ok (.iload_n 3, 1) := dk_29 (dk_at dksX0_drawsDays_1 18 rfl rfl)
theorem dX0_drawsDays_42 : decode cX0_drawsDays 42 = .ok (.aaload, 1) := dk_50 (dk_at dksX0_drawsDays_1 19 rfl rfl)
theorem dX0_drawsDays_43 : decode cX0_drawsDays 43 = .ok (.iload_n 2, 1) := dk_28 (dk_at dksX0_drawsDays_1 20 rfl rfl)
theorem dX0_drawsDays_44 : decode cX0_drawsDays 44 = .ok (.bipush 9, 2) := dk_16 9 (dk_at dksX0_drawsDays_1 21 rfl rfl)
theorem dX0_drawsDays_46 : decode cX0_drawsDays 46 = .ok (.iushr, 1) := dk_124 (dk_at dksX0_drawsDays_1 23 rfl rfl)
theorem dX0_drawsDays_47 : decode cX0_drawsDays 47 = .ok (.sipush 365, 3) := dk_17 1 109 (dk_at dksX0_drawsDays_2 0 rfl rfl)
theorem dX0_drawsDays_50 : decode cX0_drawsDays 50 = .ok (.irem, 1) := dk_112 (dk_at dksX0_drawsDays_2 3 rfl rfl)
theorem dX0_drawsDays_51 : decode cX0_drawsDays 51 = .ok (.putfield 78, 3) := dk_181 0 78 (dk_at dksX0_drawsDays_2 4 rfl rfl)
theorem dX0_drawsDays_54 : decode cX0_drawsDays 54 = .ok (.iinc 3 1, 3) := dk_132 3 1 (dk_at dksX0_drawsDays_2 7 rfl rfl)
theorem dX0_drawsDays_57 : decode cX0_drawsDays 57 = .ok (.goto (-53), 3) := dk_167 255 203 (dk_at dksX0_drawsDays_2 10 rfl rfl)
theorem dX0_drawsDays_60 : decode cX0_drawsDays 60 = .ok (.return_, 1) := dk_177 (dk_at dksX0_drawsDays_2 13 rfl rfl)
abbrev cX0_laysDays : ByteArray := prog_1_method_79_code
def yX0_laysDays : MethodName := ⟨RX0, "laysDays", "()V"⟩
def dkwX0_laysDays_1 : List UInt8 := [181, 0, 78, 132, 1, 1, 167, 255, 230, 177]
abbrev dktX0_laysDays_1 : List UInt8 := dkwX0_laysDays_1 ++ []
def dkwX0_laysDays_0 : List UInt8 := [3, 60, 27, 42, 180, 0, 18, 162, 0, 24, 42, 180, 0, 49, 27, 50, 42, 180, 1, 61, 27, 46]
abbrev dktX0_laysDays_0 : List UInt8 := dkwX0_laysDays_0 ++ dktX0_laysDays_1
theorem dksX0_laysDays_0 : cX0_laysDays.data.toList.drop 0 = dktX0_laysDays_0 := by decide +kernel
theorem dksX0_laysDays_1 : cX0_laysDays.data.toList.drop 22 = dktX0_laysDays_1 := dk_seg dksX0_laysDays_0 22 rfl rfl
theorem dX0_laysDays_0 : decode cX0_laysDays 0 = .ok (.iconst 0, 1) := dk_3 (dk_at dksX0_laysDays_0 0 rfl rfl)
theorem dX0_laysDays_1 : decode cX0_laysDays 1 = .ok (.istore_n 1, 1) := dk_60 (dk_at dksX0_laysDays_0 1 rfl rfl)
theorem dX0_laysDays_2 : decode cX0_laysDays 2 = .ok (.iload_n 1, 1) := dk_27 (dk_at dksX0_laysDays_0 2 rfl rfl)
theorem dX0_laysDays_3 : decode cX0_laysDays 3 = .ok (.aload_n 0, 1) := dk_42 (dk_at dksX0_laysDays_0 3 rfl rfl)
theorem dX0_laysDays_4 : decode cX0_laysDays 4 = .ok (.getfield 18, 3) := dk_180 0 18 (dk_at dksX0_laysDays_0 4 rfl rfl)
theorem dX0_laysDays_7 : decode cX0_laysDays 7 = .ok (.if_icmp .ge 24, 3) := dk_162 0 24 (dk_at dksX0_laysDays_0 7 rfl rfl)
theorem dX0_laysDays_10 : decode cX0_laysDays 10 = .ok (.aload_n 0, 1) := dk_42 (dk_at dksX0_laysDays_0 10 rfl rfl)
theorem dX0_laysDays_11 : decode cX0_laysDays 11 = .ok (.getfield 49, 3) := dk_180 0 49 (dk_at dksX0_laysDays_0 11 rfl rfl)
theorem dX0_laysDays_14 : decode cX0_laysDays 14 = .ok (.iload_n 1, 1) := dk_27 (dk_at dksX0_laysDays_0 14 rfl rfl)
theorem dX0_laysDays_15 : decode cX0_laysDays 15 = .ok (.aaload, 1) := dk_50 (dk_at dksX0_laysDays_0 15 rfl rfl)
theorem dX0_laysDays_16 : decode cX0_laysDays 16 = .ok (.aload_n 0, 1) := dk_42 (dk_at dksX0_laysDays_0 16 rfl rfl)
theorem dX0_laysDays_17 : decode cX0_laysDays 17 = .ok (.getfield 317, 3) := dk_180 1 61 (dk_at dksX0_laysDays_0 17 rfl rfl)
theorem dX0_laysDays_20 : decode cX0_laysDays 20 = .ok (.iload_n 1, 1) := dk_27 (dk_at dksX0_laysDays_0 20 rfl rfl)
theorem dX0_laysDays_21 : decode cX0_laysDays 21 = .ok (.iaload, 1) := dk_46 (dk_at dksX0_laysDays_0 21 rfl rfl)
theorem dX0_laysDays_22 : decode cX0_laysDays 22 = .ok (.putfield 78, 3) := dk_181 0 78 (dk_at dksX0_laysDays_1 0 rfl rfl)
theorem dX0_laysDays_25 : decode cX0_laysDays 25 = .ok (.iinc 1 1, 3) := dk_132 1 1 (dk_at dksX0_laysDays_1 3 rfl rfl)
theorem dX0_laysDays_28 : decode cX0_laysDays 28 = .ok (.goto (-26), 3) := dk_167 255 230 (dk_at dksX0_laysDays_1 6 rfl rfl)
theorem dX0_laysDays_31 : decode cX0_laysDays 31 = .ok (.return_, 1) := dk_177 (dk_at dksX0_laysDays_1 9 rfl rfl)
abbrev cX0_chance : ByteArray := prog_1_method_82_code
def yX0_chance : MethodName := ⟨RX0, "chance", "(III)J"⟩
def dkwX0_chance_4 : List UInt8 := [55, 8, 167, 255, 234, 29, 154, 0, 8, 22, 4, 167, 0, 5, 28, 133, 22, 6, 109, 173]
abbrev dktX0_chance_4 : List UInt8 := dkwX0_chance_4 ++ []
def dkwX0_chance_3 : List UInt8 := [28, 133, 55, 8, 22, 8, 9, 148, 153, 0, 21, 22, 6, 22, 8, 113, 55, 10, 22, 8, 55, 6, 22, 10]
abbrev dktX0_chance_3 : List UInt8 := dkwX0_chance_3 ++ dktX0_chance_4
def dkwX0_chance_2 : List UInt8 := [182, 2, 11, 153, 0, 7, 10, 167, 0, 4, 9, 97, 55, 4, 132, 6, 1, 167, 255, 226, 22, 4, 55, 6]
abbrev dktX0_chance_2 : List UInt8 := dkwX0_chance_2 ++ dktX0_chance_3
def dkwX0_chance_1 : List UInt8 := [20, 2, 9, 173, 9, 55, 4, 3, 54, 6, 21, 6, 28, 162, 0, 30, 22, 4, 42, 27, 21, 6, 96]
abbrev dktX0_chance_1 : List UInt8 := dkwX0_chance_1 ++ dktX0_chance_2
def dkwX0_chance_0 : List UInt8 := [28, 133, 10, 20, 2, 7, 184, 0, 14, 153, 0, 13, 29, 133, 9, 10, 184, 0, 14, 154, 0, 7]
abbrev dktX0_chance_0 : List UInt8 := dkwX0_chance_0 ++ dktX0_chance_1
theorem dksX0_chance_0 : cX0_chance.data.toList.drop 0 = dktX0_chance_0 := by decide +kernel
theorem dksX0_chance_1 : cX0_chance.data.toList.drop 22 = dktX0_chance_1 := dk_seg dksX0_chance_0 22 rfl rfl
theorem dksX0_chance_2 : cX0_chance.data.toList.drop 45 = dktX0_chance_2 := dk_seg dksX0_chance_1 23 rfl rfl
theorem dksX0_chance_3 : cX0_chance.data.toList.drop 69 = dktX0_chance_3 := dk_seg dksX0_chance_2 24 rfl rfl
theorem dksX0_chance_4 : cX0_chance.data.toList.drop 93 = dktX0_chance_4 := dk_seg dksX0_chance_3 24 rfl rfl
theorem dX0_chance_0 : decode cX0_chance 0 = .ok (.iload_n 2, 1) := dk_28 (dk_at dksX0_chance_0 0 rfl rfl)
theorem dX0_chance_1 : decode cX0_chance 1 = .ok (.i2l, 1) := dk_133 (dk_at dksX0_chance_0 1 rfl rfl)
theorem dX0_chance_2 : decode cX0_chance 2 = .ok (.lconst 1, 1) := dk_10 (dk_at dksX0_chance_0 2 rfl rfl)
theorem dX0_chance_3 : decode cX0_chance 3 = .ok (.ldc2_w 519, 3) := dk_20 2 7 (dk_at dksX0_chance_0 3 rfl rfl)
theorem dX0_chance_6 : decode cX0_chance 6 = .ok (.invokestatic 14, 3) := dk_184 0 14 (dk_at dksX0_chance_0 6 rfl rfl)
theorem dX0_chance_9 : decode cX0_chance 9 = .ok (.ifCond .eq 13, 3) := dk_153 0 13 (dk_at dksX0_chance_0 9 rfl rfl)
theorem dX0_chance_12 : decode cX0_chance 12 = .ok (.iload_n 3, 1) := dk_29 (dk_at dksX0_chance_0 12 rfl rfl)
theorem dX0_chance_13 : decode cX0_chance 13 = .ok (.i2l, 1) := dk_133 (dk_at dksX0_chance_0 13 rfl rfl)
theorem dX0_chance_14 : decode cX0_chance 14 = .ok (.lconst 0, 1) := dk_9 (dk_at dksX0_chance_0 14 rfl rfl)
theorem dX0_chance_15 : decode cX0_chance 15 = .ok (.lconst 1, 1) := dk_10 (dk_at dksX0_chance_0 15 rfl rfl)
theorem dX0_chance_16 : decode cX0_chance 16 = .ok (.invokestatic 14, 3) := dk_184 0 14 (dk_at dksX0_chance_0 16 rfl rfl)
theorem dX0_chance_19 : decode cX0_chance 19 = .ok (.ifCond .ne 7, 3) := dk_154 0 7 (dk_at dksX0_chance_0 19 rfl rfl)
theorem dX0_chance_22 : decode cX0_chance 22 = .ok (.ldc2_w 521, 3) := dk_20 2 9 (dk_at dksX0_chance_1 0 rfl rfl)
theorem dX0_chance_25 : decode cX0_chance 25 = .ok (.lreturn, 1) := dk_173 (dk_at dksX0_chance_1 3 rfl rfl)
theorem dX0_chance_26 : decode cX0_chance 26 = .ok (.lconst 0, 1) := dk_9 (dk_at dksX0_chance_1 4 rfl rfl)
theorem dX0_chance_27 : decode cX0_chance 27 = .ok (.lstore 4, 2) := dk_55 4 (dk_at dksX0_chance_1 5 rfl rfl)
theorem dX0_chance_29 : decode cX0_chance 29 = .ok (.iconst 0, 1) := dk_3 (dk_at dksX0_chance_1 7 rfl rfl)
theorem dX0_chance_30 : decode cX0_chance 30 = .ok (.istore 6, 2) := dk_54 6 (dk_at dksX0_chance_1 8 rfl rfl)
theorem dX0_chance_32 : decode cX0_chance 32 = .ok (.iload 6, 2) := dk_21 6 (dk_at dksX0_chance_1 10 rfl rfl)
theorem dX0_chance_34 : decode cX0_chance 34 = .ok (.iload_n 2, 1) := dk_28 (dk_at dksX0_chance_1 12 rfl rfl)
theorem dX0_chance_35 : decode cX0_chance 35 = .ok (.if_icmp .ge 30, 3) := dk_162 0 30 (dk_at dksX0_chance_1 13 rfl rfl)
theorem dX0_chance_38 : decode cX0_chance 38 = .ok (.lload 4, 2) := dk_22 4 (dk_at dksX0_chance_1 16 rfl rfl)
theorem dX0_chance_40 : decode cX0_chance 40 = .ok (.aload_n 0, 1) := dk_42 (dk_at dksX0_chance_1 18 rfl rfl)
theorem dX0_chance_41 : decode cX0_chance 41 = .ok (.iload_n 1, 1) := dk_27 (dk_at dksX0_chance_1 19 rfl rfl)
theorem dX0_chance_42 : decode cX0_chance 42 = .ok (.iload 6, 2) := dk_21 6 (dk_at dksX0_chance_1 20 rfl rfl)
theorem dX0_chance_44 : decode cX0_chance 44 = .ok (.iadd, 1) := dk_96 (dk_at dksX0_chance_1 22 rfl rfl)
theorem dX0_chance_45 : decode cX0_chance 45 = .ok (.invokevirtual 523, 3) := dk_182 2 11 (dk_at dksX0_chance_2 0 rfl rfl)
theorem dX0_chance_48 : decode cX0_chance 48 = .ok (.ifCond .eq 7, 3) := dk_153 0 7 (dk_at dksX0_chance_2 3 rfl rfl)
theorem dX0_chance_51 : decode cX0_chance 51 = .ok (.lconst 1, 1) := dk_10 (dk_at dksX0_chance_2 6 rfl rfl)
theorem dX0_chance_52 : decode cX0_chance 52 = .ok (.goto 4, 3) := dk_167 0 4 (dk_at dksX0_chance_2 7 rfl rfl)
theorem dX0_chance_55 : decode cX0_chance 55 = .ok (.lconst 0, 1) := dk_9 (dk_at dksX0_chance_2 10 rfl rfl)
theorem dX0_chance_56 : decode cX0_chance 56 = .ok (.ladd, 1) := dk_97 (dk_at dksX0_chance_2 11 rfl rfl)
theorem dX0_chance_57 : decode cX0_chance 57 = .ok (.lstore 4, 2) := dk_55 4 (dk_at dksX0_chance_2 12 rfl rfl)
theorem dX0_chance_59 : decode cX0_chance 59 = .ok (.iinc 6 1, 3) := dk_132 6 1 (dk_at dksX0_chance_2 14 rfl rfl)
theorem dX0_chance_62 : decode cX0_chance 62 = .ok (.goto (-30), 3) := dk_167 255 226 (dk_at dksX0_chance_2 17 rfl rfl)
theorem dX0_chance_65 : decode cX0_chance 65 = .ok (.lload 4, 2) := dk_22 4 (dk_at dksX0_chance_2 20 rfl rfl)
theorem dX0_chance_67 : decode cX0_chance 67 = .ok (.lstore 6, 2) := dk_55 6 (dk_at dksX0_chance_2 22 rfl rfl)
theorem dX0_chance_69 : decode cX0_chance 69 = .ok (.iload_n 2, 1) := dk_28 (dk_at dksX0_chance_3 0 rfl rfl)
theorem dX0_chance_70 : decode cX0_chance 70 = .ok (.i2l, 1) := dk_133 (dk_at dksX0_chance_3 1 rfl rfl)
theorem dX0_chance_71 : decode cX0_chance 71 = .ok (.lstore 8, 2) := dk_55 8 (dk_at dksX0_chance_3 2 rfl rfl)
theorem dX0_chance_73 : decode cX0_chance 73 = .ok (.lload 8, 2) := dk_22 8 (dk_at dksX0_chance_3 4 rfl rfl)
theorem dX0_chance_75 : decode cX0_chance 75 = .ok (.lconst 0, 1) := dk_9 (dk_at dksX0_chance_3 6 rfl rfl)
theorem dX0_chance_76 : decode cX0_chance 76 = .ok (.lcmp, 1) := dk_148 (dk_at dksX0_chance_3 7 rfl rfl)
theorem dX0_chance_77 : decode cX0_chance 77 = .ok (.ifCond .eq 21, 3) := dk_153 0 21 (dk_at dksX0_chance_3 8 rfl rfl)
theorem dX0_chance_80 : decode cX0_chance 80 = .ok (.lload 6, 2) := dk_22 6 (dk_at dksX0_chance_3 11 rfl rfl)
theorem dX0_chance_82 : decode cX0_chance 82 = .ok (.lload 8, 2) := dk_22 8 (dk_at dksX0_chance_3 13 rfl rfl)
theorem dX0_chance_84 : decode cX0_chance 84 = .ok (.lrem, 1) := dk_113 (dk_at dksX0_chance_3 15 rfl rfl)
theorem dX0_chance_85 : decode cX0_chance 85 = .ok (.lstore 10, 2) := dk_55 10 (dk_at dksX0_chance_3 16 rfl rfl)
theorem dX0_chance_87 : decode cX0_chance 87 = .ok (.lload 8, 2) := dk_22 8 (dk_at dksX0_chance_3 18 rfl rfl)
theorem dX0_chance_89 : decode cX0_chance 89 = .ok (.lstore 6, 2) := dk_55 6 (dk_at dksX0_chance_3 20 rfl rfl)
theorem dX0_chance_91 : decode cX0_chance 91 = .ok (.lload 10, 2) := dk_22 10 (dk_at dksX0_chance_3 22 rfl rfl)
theorem dX0_chance_93 : decode cX0_chance 93 = .ok (.lstore 8, 2) := dk_55 8 (dk_at dksX0_chance_4 0 rfl rfl)
theorem dX0_chance_95 : decode cX0_chance 95 = .ok (.goto (-22), 3) := dk_167 255 234 (dk_at dksX0_chance_4 2 rfl rfl)
theorem dX0_chance_98 : decode cX0_chance 98 = .ok (.iload_n 3, 1) := dk_29 (dk_at dksX0_chance_4 5 rfl rfl)
theorem dX0_chance_99 : decode cX0_chance 99 = .ok (.ifCond .ne 8, 3) := dk_154 0 8 (dk_at dksX0_chance_4 6 rfl rfl)
theorem dX0_chance_102 : decode cX0_chance 102 = .ok (.lload 4, 2) := dk_22 4 (dk_at dksX0_chance_4 9 rfl rfl)
theorem dX0_chance_104 : decode cX0_chance 104 = .ok (.goto 5, 3) := dk_167 0 5 (dk_at dksX0_chance_4 11 rfl rfl)
theorem dX0_chance_107 : decode cX0_chance 107 = .ok (.iload_n 2, 1) := dk_28 (dk_at dksX0_chance_4 14 rfl rfl)
theorem dX0_chance_108 : decode cX0_chance 108 = .ok (.i2l, 1) := dk_133 (dk_at dksX0_chance_4 15 rfl rfl)
theorem dX0_chance_109 : decode cX0_chance 109 = .ok (.lload 6, 2) := dk_22 6 (dk_at dksX0_chance_4 16 rfl rfl)
theorem dX0_chance_111 : decode cX0_chance 111 = .ok (.ldiv, 1) := dk_109 (dk_at dksX0_chance_4 18 rfl rfl)
theorem dX0_chance_112 : decode cX0_chance 112 = .ok (.lreturn, 1) := dk_173 (dk_at dksX0_chance_4 19 rfl rfl)
abbrev cX0_isPeace : ByteArray := prog_1_method_81_code
def yX0_isPeace : MethodName := ⟨RX0, "isPeace", "(I)Z"⟩
def dkwX0_isPeace_1 : List UInt8 := [78, 42, 182, 2, 4, 45, 191]
abbrev dktX0_isPeace_1 : List UInt8 := dkwX0_isPeace_1 ++ []
def dkwX0_isPeace_0 : List UInt8 := [42, 27, 182, 2, 1, 42, 182, 1, 139, 154, 0, 7, 4, 167, 0, 4, 3, 61, 42, 182, 2, 4, 28, 172]
abbrev dktX0_isPeace_0 : List UInt8 := dkwX0_isPeace_0 ++ dktX0_isPeace_1
theorem dksX0_isPeace_0 : cX0_isPeace.data.toList.drop 0 = dktX0_isPeace_0 := by decide +kernel
theorem dksX0_isPeace_1 : cX0_isPeace.data.toList.drop 24 = dktX0_isPeace_1 := dk_seg dksX0_isPeace_0 24 rfl rfl
theorem dX0_isPeace_0 : decode cX0_isPeace 0 = .ok (.aload_n 0, 1) := dk_42 (dk_at dksX0_isPeace_0 0 rfl rfl)
theorem dX0_isPeace_1 : decode cX0_isPeace 1 = .ok (.iload_n 1, 1) := dk_27 (dk_at dksX0_isPeace_0 1 rfl rfl)
theorem dX0_isPeace_2 : decode cX0_isPeace 2 = .ok (.invokevirtual 513, 3) := dk_182 2 1 (dk_at dksX0_isPeace_0 2 rfl rfl)
theorem dX0_isPeace_5 : decode cX0_isPeace 5 = .ok (.aload_n 0, 1) := dk_42 (dk_at dksX0_isPeace_0 5 rfl rfl)
theorem dX0_isPeace_6 : decode cX0_isPeace 6 = .ok (.invokevirtual 395, 3) := dk_182 1 139 (dk_at dksX0_isPeace_0 6 rfl rfl)
theorem dX0_isPeace_9 : decode cX0_isPeace 9 = .ok (.ifCond .ne 7, 3) := dk_154 0 7 (dk_at dksX0_isPeace_0 9 rfl rfl)
theorem dX0_isPeace_12 : decode cX0_isPeace 12 = .ok (.iconst 1, 1) := dk_4 (dk_at dksX0_isPeace_0 12 rfl rfl)
theorem dX0_isPeace_13 : decode cX0_isPeace 13 = .ok (.goto 4, 3) := dk_167 0 4 (dk_at dksX0_isPeace_0 13 rfl rfl)
theorem dX0_isPeace_16 : decode cX0_isPeace 16 = .ok (.iconst 0, 1) := dk_3 (dk_at dksX0_isPeace_0 16 rfl rfl)
theorem dX0_isPeace_17 : decode cX0_isPeace 17 = .ok (.istore_n 2, 1) := dk_61 (dk_at dksX0_isPeace_0 17 rfl rfl)
theorem dX0_isPeace_18 : decode cX0_isPeace 18 = .ok (.aload_n 0, 1) := dk_42 (dk_at dksX0_isPeace_0 18 rfl rfl)
theorem dX0_isPeace_19 : decode cX0_isPeace 19 = .ok (.invokevirtual 516, 3) := dk_182 2 4 (dk_at dksX0_isPeace_0 19 rfl rfl)
theorem dX0_isPeace_22 : decode cX0_isPeace 22 = .ok (.iload_n 2, 1) := dk_28 (dk_at dksX0_isPeace_0 22 rfl rfl)
theorem dX0_isPeace_23 : decode cX0_isPeace 23 = .ok (.ireturn, 1) := dk_172 (dk_at dksX0_isPeace_0 23 rfl rfl)
theorem dX0_isPeace_24 : decode cX0_isPeace 24 = .ok (.astore_n 3, 1) := dk_78 (dk_at dksX0_isPeace_1 0 rfl rfl)
theorem dX0_isPeace_25 : decode cX0_isPeace 25 = .ok (.aload_n 0, 1) := dk_42 (dk_at dksX0_isPeace_1 1 rfl rfl)
theorem dX0_isPeace_26 : decode cX0_isPeace 26 = .ok (.invokevirtual 516, 3) := dk_182 2 4 (dk_at dksX0_isPeace_1 2 rfl rfl)
theorem dX0_isPeace_29 : decode cX0_isPeace 29 = .ok (.aload_n 3, 1) := dk_45 (dk_at dksX0_isPeace_1 5 rfl rfl)
theorem dX0_isPeace_30 : decode cX0_isPeace 30 = .ok (.athrow, 1) := dk_191 (dk_at dksX0_isPeace_1 6 rfl rfl)
abbrev cX0_image : ByteArray := prog_1_method_83_code
def yX0_image : MethodName := ⟨RX0, "image", "()I"⟩
def dkwX0_image_6 : List UInt8 := [180, 0, 68, 79, 42, 180, 1, 70, 5, 42, 180, 1, 89, 79, 42, 4, 181, 2, 20, 42, 180, 0, 18, 172]
abbrev dktX0_image_6 : List UInt8 := dkwX0_image_6 ++ []
def dkwX0_image_5 : List UInt8 := [132, 1, 1, 167, 255, 152, 42, 180, 1, 70, 3, 42, 180, 0, 18, 79, 42, 180, 1, 70, 4, 42]
abbrev dktX0_image_5 : List UInt8 := dkwX0_image_5 ++ dktX0_image_6
def dkwX0_image_4 : List UInt8 := [180, 1, 67, 7, 50, 27, 42, 180, 0, 49, 27, 50, 180, 0, 98, 153, 0, 7, 4, 167, 0, 4, 3, 79]
abbrev dktX0_image_4 : List UInt8 := dkwX0_image_4 ++ dktX0_image_5
def dkwX0_image_3 : List UInt8 := [180, 0, 81, 79, 42, 180, 1, 67, 6, 50, 27, 42, 180, 0, 49, 27, 50, 180, 0, 95, 79, 42]
abbrev dktX0_image_3 : List UInt8 := dkwX0_image_3 ++ dktX0_image_4
def dkwX0_image_2 : List UInt8 := [42, 180, 0, 49, 27, 50, 180, 0, 78, 79, 42, 180, 1, 67, 5, 50, 27, 42, 180, 0, 49, 27, 50]
abbrev dktX0_image_2 : List UInt8 := dkwX0_image_2 ++ dktX0_image_3
def dkwX0_image_1 : List UInt8 := [42, 180, 1, 67, 3, 50, 27, 42, 180, 0, 49, 27, 50, 180, 0, 75, 79, 42, 180, 1, 67, 4, 50, 27]
abbrev dktX0_image_1 : List UInt8 := dkwX0_image_1 ++ dktX0_image_2
def dkwX0_image_0 : List UInt8 := [42, 180, 0, 71, 3, 42, 180, 1, 64, 3, 7, 184, 2, 14, 3, 60, 27, 42, 180, 0, 18, 162, 0, 102]
abbrev dktX0_image_0 : List UInt8 := dkwX0_image_0 ++ dktX0_image_1
theorem dksX0_image_0 : cX0_image.data.toList.drop 0 = dktX0_image_0 := by decide +kernel
theorem dksX0_image_1 : cX0_image.data.toList.drop 24 = dktX0_image_1 := dk_seg dksX0_image_0 24 rfl rfl
theorem dksX0_image_2 : cX0_image.data.toList.drop 48 = dktX0_image_2 := dk_seg dksX0_image_1 24 rfl rfl
theorem dksX0_image_3 : cX0_image.data.toList.drop 71 = dktX0_image_3 := dk_seg dksX0_image_2 23 rfl rfl
theorem dksX0_image_4 : cX0_image.data.toList.drop 93 = dktX0_image_4 := dk_seg dksX0_image_3 22 rfl rfl
theorem dksX0_image_5 : cX0_image.data.toList.drop 117 = dktX0_image_5 := dk_seg dksX0_image_4 24 rfl rfl
theorem dksX0_image_6 : cX0_image.data.toList.drop 139 = dktX0_image_6 := dk_seg dksX0_image_5 22 rfl rfl
theorem dX0_image_0 : decode cX0_image 0 = .ok (.aload_n 0, 1) := dk_42 (dk_at dksX0_image_0 0 rfl rfl)
theorem dX0_image_1 : decode cX0_image 1 = .ok (.getfield 71, 3) := dk_180 0 71 (dk_at dksX0_image_0 1 rfl rfl)
theorem dX0_image_4 : decode cX0_image 4 = .ok (.iconst 0, 1) := dk_3 (dk_at dksX0_image_0 4 rfl rfl)
theorem dX0_image_5 : decode cX0_image 5 = .ok (.aload_n 0, 1) := dk_42 (dk_at dksX0_image_0 5 rfl rfl)
theorem dX0_image_6 : decode cX0_image 6 = .ok (.getfield 320, 3) := dk_180 1 64 (dk_at dksX0_image_0 6 rfl rfl)
theorem dX0_image_9 : decode cX0_image 9 = .ok (.iconst 0, 1) := dk_3 (dk_at dksX0_image_0 9 rfl rfl)
theorem dX0_image_10 : decode cX0_image 10 = .ok (.iconst 4, 1) := dk_7 (dk_at dksX0_image_0 10 rfl rfl)
theorem dX0_image_11 : decode cX0_image 11 = .ok (.invokestatic 526, 3) := dk_184 2 14 (dk_at dksX0_image_0 11 rfl rfl)
theorem dX0_image_14 : decode cX0_image 14 = .ok (.iconst 0, 1) := dk_3 (dk_at dksX0_image_0 14 rfl rfl)
theorem dX0_image_15 : decode cX0_image 15 = .ok (.istore_n 1, 1) := dk_60 (dk_at dksX0_image_0 15 rfl rfl)
theorem dX0_image_16 : decode cX0_image 16 = .ok (.iload_n 1, 1) := dk_27 (dk_at dksX0_image_0 16 rfl rfl)
theorem dX0_image_17 : decode cX0_image 17 = .ok (.aload_n 0, 1) := dk_42 (dk_at dksX0_image_0 17 rfl rfl)
theorem dX0_image_18 : decode cX0_image 18 = .ok (.getfield 18, 3) := dk_180 0 18 (dk_at dksX0_image_0 18 rfl rfl)
theorem dX0_image_21 : decode cX0_image 21 = .ok (.if_icmp .ge 102, 3) := dk_162 0 102 (dk_at dksX0_image_0 21 rfl rfl)
theorem dX0_image_24 : decode cX0_image 24 = .ok (.aload_n 0, 1) := dk_42 (dk_at dksX0_image_1 0 rfl rfl)
theorem dX0_image_25 : decode cX0_image 25 = .ok (.getfield 323, 3) := dk_180 1 67 (dk_at dksX0_image_1 1 rfl rfl)
theorem dX0_image_28 : decode cX0_image 28 = .ok (.iconst 0, 1) := dk_3 (dk_at dksX0_image_1 4 rfl rfl)
theorem dX0_image_29 : decode cX0_image 29 = .ok (.aaload, 1) := dk_50 (dk_at dksX0_image_1 5 rfl rfl)
theorem dX0_image_30 : decode cX0_image 30 = .ok (.iload_n 1, 1) := dk_27 (dk_at dksX0_image_1 6 rfl rfl)
theorem dX0_image_31 : decode cX0_image 31 = .ok (.aload_n 0, 1) := dk_42 (dk_at dksX0_image_1 7 rfl rfl)
theorem dX0_image_32 : decode cX0_image 32 = .ok (.getfield 49, 3) := dk_180 0 49 (dk_at dksX0_image_1 8 rfl rfl)
theorem dX0_image_35 : decode cX0_image 35 = .ok (.iload_n 1, 1) := dk_27 (dk_at dksX0_image_1 11 rfl rfl)
theorem dX0_image_36 : decode cX0_image 36 = .ok (.aaload, 1) := dk_50 (dk_at dksX0_image_1 12 rfl rfl)
theorem dX0_image_37 : decode cX0_image 37 = .ok (.getfield 75, 3) := dk_180 0 75 (dk_at dksX0_image_1 13 rfl rfl)
theorem dX0_image_40 : decode cX0_image 40 = .ok (.iastore, 1) := dk_79 (dk_at dksX0_image_1 16 rfl rfl)
theorem dX0_image_41 : decode cX0_image 41 = .ok (.aload_n 0, 1) := dk_42 (dk_at dksX0_image_1 17 rfl rfl)
theorem dX0_image_42 : decode cX0_image 42 = .ok (.getfield 323, 3) := dk_180 1 67 (dk_at dksX0_image_1 18 rfl rfl)
theorem dX0_image_45 : decode cX0_image 45 = .ok (.iconst 1, 1) := dk_4 (dk_at dksX0_image_1 21 rfl rfl)
theorem dX0_image_46 : decode cX0_image 46 = .ok (.aaload, 1) := dk_50 (dk_at dksX0_image_1 22 rfl rfl)
theorem dX0_image_47 : decode cX0_image 47 = .ok (.iload_n 1, 1) := dk_27 (dk_at dksX0_image_1 23 rfl rfl)
theorem dX0_image_48 : decode cX0_image 48 = .ok (.aload_n 0, 1) := dk_42 (dk_at dksX0_image_2 0 rfl rfl)
theorem dX0_image_49 : decode cX0_image 49 = .ok (.getfield 49, 3) := dk_180 0 49 (dk_at dksX0_image_2 1 rfl rfl)
theorem dX0_image_52 : decode cX0_image 52 = .ok (.iload_n 1, 1) := dk_27 (dk_at dksX0_image_2 4 rfl rfl)
theorem dX0_image_53 : decode cX0_image 53 = .ok (.aaload, 1) := dk_50 (dk_at dksX0_image_2 5 rfl rfl)
theorem dX0_image_54 : decode cX0_image 54 = .ok (.getfield 78, 3) := dk_180 0 78 (dk_at dksX0_image_2 6 rfl rfl)
theorem dX0_image_57 : decode cX0_image 57 = .ok (.iastore, 1) := dk_79 (dk_at dksX0_image_2 9 rfl rfl)
theorem dX0_image_58 : decode cX0_image 58 = .ok (.aload_n 0, 1) := dk_42 (dk_at dksX0_image_2 10 rfl rfl)
theorem dX0_image_59 : decode cX0_image 59 = .ok (.getfield 323, 3) := dk_180 1 67 (dk_at dksX0_image_2 11 rfl rfl)
theorem dX0_image_62 : decode cX0_image 62 = .ok (.iconst 2, 1) := dk_5 (dk_at dksX0_image_2 14 rfl rfl)
theorem dX0_image_63 : decode cX0_image 63 = .ok (.aaload, 1) := dk_50 (dk_at dksX0_image_2 15 rfl rfl)
theorem dX0_image_64 : decode cX0_image 64 = .ok (.iload_n 1, 1) := dk_27 (dk_at dksX0_image_2 16 rfl rfl)
theorem dX0_image_65 : decode cX0_image 65 = .ok (.aload_n 0, 1) := dk_42 (dk_at dksX0_image_2 17 rfl rfl)
theorem dX0_image_66 : decode cX0_image 66 = .ok (.getfield 49, 3) := dk_180 0 49 (dk_at dksX0_image_2 18 rfl rfl)
theorem dX0_image_69 : decode cX0_image 69 = .ok (.iload_n 1, 1) := dk_27 (dk_at dksX0_image_2 21 rfl rfl)
theorem dX0_image_70 : decode cX0_image 70 = .ok (.aaload, 1) := dk_50 (dk_at dksX0_image_2 22 rfl rfl)
theorem dX0_image_71 : decode cX0_image 71 = .ok (.getfield 81, 3) := dk_180 0 81 (dk_at dksX0_image_3 0 rfl rfl)
theorem dX0_image_74 : decode cX0_image 74 = .ok (.iastore, 1) := dk_79 (dk_at dksX0_image_3 3 rfl rfl)
theorem dX0_image_75 : decode cX0_image 75 = .ok (.aload_n 0, 1) := dk_42 (dk_at dksX0_image_3 4 rfl rfl)
theorem dX0_image_76 : decode cX0_image 76 = .ok (.getfield 323, 3) := dk_180 1 67 (dk_at dksX0_image_3 5 rfl rfl)
theorem dX0_image_79 : decode cX0_image 79 = .ok (.iconst 3, 1) := dk_6 (dk_at dksX0_image_3 8 rfl rfl)
theorem dX0_image_80 : decode cX0_image 80 = .ok (.aaload, 1) := dk_50 (dk_at dksX0_image_3 9 rfl rfl)
theorem dX0_image_81 : decode cX0_image 81 = .ok (.iload_n 1, 1) := dk_27 (dk_at dksX0_image_3 10 rfl rfl)
theorem dX0_image_82 : decode cX0_image 82 = .ok (.aload_n 0, 1) := dk_42 (dk_at dksX0_image_3 11 rfl rfl)
theorem dX0_image_83 : decode cX0_image 83 = .ok (.getfield 49, 3) := dk_180 0 49 (dk_at dksX0_image_3 12 rfl rfl)
theorem dX0_image_86 : decode cX0_image 86 = .ok (.iload_n 1, 1) := dk_27 (dk_at dksX0_image_3 15 rfl rfl)
theorem dX0_image_87 : decode cX0_image 87 = .ok (.aaload, 1) := dk_50 (dk_at dksX0_image_3 16 rfl rfl)
theorem dX0_image_88 : decode cX0_image 88 = .ok (.getfield 95, 3) := dk_180 0 95 (dk_at dksX0_image_3 17 rfl rfl)
theorem dX0_image_91 : decode cX0_image 91 = .ok (.iastore, 1) := dk_79 (dk_at dksX0_image_3 20 rfl rfl)
theorem dX0_image_92 : decode cX0_image 92 = .ok (.aload_n 0, 1) := dk_42 (dk_at dksX0_image_3 21 rfl rfl)
theorem dX0_image_93 : decode cX0_image 93 = .ok (.getfield 323, 3) := dk_180 1 67 (dk_at dksX0_image_4 0 rfl rfl)
theorem dX0_image_96 : decode cX0_image 96 = .ok (.iconst 4, 1) := dk_7 (dk_at dksX0_image_4 3 rfl rfl)
theorem dX0_image_97 : decode cX0_image 97 = .ok (.aaload, 1) := dk_50 (dk_at dksX0_image_4 4 rfl rfl)
theorem dX0_image_98 : decode cX0_image 98 = .ok (.iload_n 1, 1) := dk_27 (dk_at dksX0_image_4 5 rfl rfl)
theorem dX0_image_99 : decode cX0_image 99 = .ok (.aload_n 0, 1) := dk_42 (dk_at dksX0_image_4 6 rfl rfl)
theorem dX0_image_100 : decode cX0_image 100 = .ok (.getfield 49, 3) := dk_180 0 49 (dk_at dksX0_image_4 7 rfl rfl)
theorem dX0_image_103 : decode cX0_image 103 = .ok (.iload_n 1, 1) := dk_27 (dk_at dksX0_image_4 10 rfl rfl)
theorem dX0_image_104 : decode cX0_image 104 = .ok (.aaload, 1) := dk_50 (dk_at dksX0_image_4 11 rfl rfl)
theorem dX0_image_105 : decode cX0_image 105 = .ok (.getfield 98, 3) := dk_180 0 98 (dk_at dksX0_image_4 12 rfl rfl)
theorem dX0_image_108 : decode cX0_image 108 = .ok (.ifCond .eq 7, 3) := dk_153 0 7 (dk_at dksX0_image_4 15 rfl rfl)
theorem dX0_image_111 : decode cX0_image 111 = .ok (.iconst 1, 1) := dk_4 (dk_at dksX0_image_4 18 rfl rfl)
theorem dX0_image_112 : decode cX0_image 112 = .ok (.goto 4, 3) := dk_167 0 4 (dk_at dksX0_image_4 19 rfl rfl)
theorem dX0_image_115 : decode cX0_image 115 = .ok (.iconst 0, 1) := dk_3 (dk_at dksX0_image_4 22 rfl rfl)
theorem dX0_image_116 : decode cX0_image 116 = .ok (.iastore, 1) := dk_79 (dk_at dksX0_image_4 23 rfl rfl)
theorem dX0_image_117 : decode cX0_image 117 = .ok (.iinc 1 1, 3) := dk_132 1 1 (dk_at dksX0_image_5 0 rfl rfl)
theorem dX0_image_120 : decode cX0_image 120 = .ok (.goto (-104), 3) := dk_167 255 152 (dk_at dksX0_image_5 3 rfl rfl)
theorem dX0_image_123 : decode cX0_image 123 = .ok (.aload_n 0, 1) := dk_42 (dk_at dksX0_image_5 6 rfl rfl)
theorem dX0_image_124 : decode cX0_image 124 = .ok (.getfield 326, 3) := dk_180 1 70 (dk_at dksX0_image_5 7 rfl rfl)
theorem dX0_image_127 : decode cX0_image 127 = .ok (.iconst 0, 1) := dk_3 (dk_at dksX0_image_5 10 rfl rfl)
theorem dX0_image_128 : decode cX0_image 128 = .ok (.aload_n 0, 1) := dk_42 (dk_at dksX0_image_5 11 rfl rfl)
theorem dX0_image_129 : decode cX0_image 129 = .ok (.getfield 18, 3) := dk_180 0 18 (dk_at dksX0_image_5 12 rfl rfl)
theorem dX0_image_132 : decode cX0_image 132 = .ok (.iastore, 1) := dk_79 (dk_at dksX0_image_5 15 rfl rfl)
theorem dX0_image_133 : decode cX0_image 133 = .ok (.aload_n 0, 1) := dk_42 (dk_at dksX0_image_5 16 rfl rfl)
theorem dX0_image_134 : decode cX0_image 134 = .ok (.getfield 326, 3) := dk_180 1 70 (dk_at dksX0_image_5 17 rfl rfl)
theorem dX0_image_137 : decode cX0_image 137 = .ok (.iconst 1, 1) := dk_4 (dk_at dksX0_image_5 20 rfl rfl)
theorem dX0_image_138 : decode cX0_image 138 = .ok (.aload_n 0, 1) := dk_42 (dk_at dksX0_image_5 21 rfl rfl)
theorem dX0_image_139 : decode cX0_image 139 = .ok (.getfield 68, 3) := dk_180 0 68 (dk_at dksX0_image_6 0 rfl rfl)
theorem dX0_image_142 : decode cX0_image 142 = .ok (.iastore, 1) := dk_79 (dk_at dksX0_image_6 3 rfl rfl)
theorem dX0_image_143 : decode cX0_image 143 = .ok (.aload_n 0, 1) := dk_42 (dk_at dksX0_image_6 4 rfl rfl)
theorem dX0_image_144 : decode cX0_image 144 = .ok (.getfield 326, 3) := dk_180 1 70 (dk_at dksX0_image_6 5 rfl rfl)
theorem dX0_image_147 : decode cX0_image 147 = .ok (.iconst 2, 1) := dk_5 (dk_at dksX0_image_6 8 rfl rfl)
theorem dX0_image_148 : decode cX0_image 148 = .ok (.aload_n 0, 1) := dk_42 (dk_at dksX0_image_6 9 rfl rfl)
theorem dX0_image_149 : decode cX0_image 149 = .ok (.getfield 345, 3) := dk_180 1 89 (dk_at dksX0_image_6 10 rfl rfl)
theorem dX0_image_152 : decode cX0_image 152 = .ok (.iastore, 1) := dk_79 (dk_at dksX0_image_6 13 rfl rfl)
theorem dX0_image_153 : decode cX0_image 153 = .ok (.aload_n 0, 1) := dk_42 (dk_at dksX0_image_6 14 rfl rfl)
theorem dX0_image_154 : decode cX0_image 154 = .ok (.iconst 1, 1) := dk_4 (dk_at dksX0_image_6 15 rfl rfl)
theorem dX0_image_155 : decode cX0_image 155 = .ok (.putfield 532, 3) := dk_181 2 20 (dk_at dksX0_image_6 16 rfl rfl)
theorem dX0_image_158 : decode cX0_image 158 = .ok (.aload_n 0, 1) := dk_42 (dk_at dksX0_image_6 19 rfl rfl)
theorem dX0_image_159 : decode cX0_image 159 = .ok (.getfield 18, 3) := dk_180 0 18 (dk_at dksX0_image_6 20 rfl rfl)
theorem dX0_image_162 : decode cX0_image 162 = .ok (.ireturn, 1) := dk_172 (dk_at dksX0_image_6 23 rfl rfl)
abbrev cX0_back : ByteArray := prog_1_method_84_code
def yX0_back : MethodName := ⟨RX0, "back", "()I"⟩
def dkwX0_back_7 : List UInt8 := [167, 255, 151, 42, 180, 0, 18, 172]
abbrev dktX0_back_7 : List UInt8 := dkwX0_back_7 ++ []
def dkwX0_back_6 : List UInt8 := [180, 1, 67, 7, 50, 27, 46, 4, 160, 0, 7, 4, 167, 0, 4, 3, 181, 0, 98, 132, 1, 1]
abbrev dktX0_back_6 : List UInt8 := dkwX0_back_6 ++ dktX0_back_7
def dkwX0_back_5 : List UInt8 := [180, 0, 49, 27, 50, 42, 180, 1, 67, 6, 50, 27, 46, 181, 0, 95, 42, 180, 0, 49, 27, 50, 42]
abbrev dktX0_back_5 : List UInt8 := dkwX0_back_5 ++ dktX0_back_6
def dkwX0_back_4 : List UInt8 := [46, 181, 0, 78, 42, 180, 0, 49, 27, 50, 42, 180, 1, 67, 5, 50, 27, 46, 181, 0, 81, 42]
abbrev dktX0_back_4 : List UInt8 := dkwX0_back_4 ++ dktX0_back_5
def dkwX0_back_3 : List UInt8 := [42, 180, 1, 67, 3, 50, 27, 46, 181, 0, 75, 42, 180, 0, 49, 27, 50, 42, 180, 1, 67, 4, 50, 27]
abbrev dktX0_back_3 : List UInt8 := dkwX0_back_3 ++ dktX0_back_4
def dkwX0_back_2 : List UInt8 := [180, 1, 70, 5, 46, 181, 1, 89, 3, 60, 27, 42, 180, 0, 18, 162, 0, 103, 42, 180, 0, 49, 27, 50]
abbrev dktX0_back_2 : List UInt8 := dkwX0_back_2 ++ dktX0_back_3
def dkwX0_back_1 : List UInt8 := [42, 42, 180, 1, 70, 3, 46, 181, 0, 18, 42, 42, 180, 1, 70, 4, 46, 181, 0, 68, 42, 42]
abbrev dktX0_back_1 : List UInt8 := dkwX0_back_1 ++ dktX0_back_2
def dkwX0_back_0 : List UInt8 := [42, 180, 2, 20, 154, 0, 6, 16, 253, 172, 42, 180, 1, 64, 3, 42, 180, 0, 71, 3, 7, 184, 2, 14]
abbrev dktX0_back_0 : List UInt8 := dkwX0_back_0 ++ dktX0_back_1
theorem dksX0_back_0 : cX0_back.data.toList.drop 0 = dktX0_back_0 := by decide +kernel
theorem dksX0_back_1 : cX0_back.data.toList.drop 24 = dktX0_back_1 := dk_seg dksX0_back_0 24 rfl rfl
theorem dksX0_back_2 : cX0_back.data.toList.drop 46 = dktX0_back_2 := dk_seg dksX0_back_1 22 rfl rfl
theorem dksX0_back_3 : cX0_back.data.toList.drop 70 = dktX0_back_3 := dk_seg dksX0_back_2 24 rfl rfl
theorem dksX0_back_4 : cX0_back.data.toList.drop 94 = dktX0_back_4 := dk_seg dksX0_back_3 24 rfl rfl
theorem dksX0_back_5 : cX0_back.data.toList.drop 116 = dktX0_back_5 := dk_seg dksX0_back_4 22 rfl rfl
theorem dksX0_back_6 : cX0_back.data.toList.drop 139 = dktX0_back_6 := dk_seg dksX0_back_5 23 rfl rfl
theorem dksX0_back_7 : cX0_back.data.toList.drop 161 = dktX0_back_7 := dk_seg dksX0_back_6 22 rfl rfl
theorem dX0_back_0 : decode cX0_back 0 = .ok (.aload_n 0, 1) := dk_42 (dk_at dksX0_back_0 0 rfl rfl)
theorem dX0_back_1 : decode cX0_back 1 = .ok (.getfield 532, 3) := dk_180 2 20 (dk_at dksX0_back_0 1 rfl rfl)
theorem dX0_back_4 : decode cX0_back 4 = .ok (.ifCond .ne 6, 3) := dk_154 0 6 (dk_at dksX0_back_0 4 rfl rfl)
theorem dX0_back_7 : decode cX0_back 7 = .ok (.bipush (-3), 2) := dk_16 253 (dk_at dksX0_back_0 7 rfl rfl)
theorem dX0_back_9 : decode cX0_back 9 = .ok (.ireturn, 1) := dk_172 (dk_at dksX0_back_0 9 rfl rfl)
theorem dX0_back_10 : decode cX0_back 10 = .ok (.aload_n 0, 1) := dk_42 (dk_at dksX0_back_0 10 rfl rfl)
theorem dX0_back_11 : decode cX0_back 11 = .ok (.getfield 320, 3) := dk_180 1 64 (dk_at dksX0_back_0 11 rfl rfl)
theorem dX0_back_14 : decode cX0_back 14 = .ok (.iconst 0, 1) := dk_3 (dk_at dksX0_back_0 14 rfl rfl)
theorem dX0_back_15 : decode cX0_back 15 = .ok (.aload_n 0, 1) := dk_42 (dk_at dksX0_back_0 15 rfl rfl)
theorem dX0_back_16 : decode cX0_back 16 = .ok (.getfield 71, 3) := dk_180 0 71 (dk_at dksX0_back_0 16 rfl rfl)
theorem dX0_back_19 : decode cX0_back 19 = .ok (.iconst 0, 1) := dk_3 (dk_at dksX0_back_0 19 rfl rfl)
theorem dX0_back_20 : decode cX0_back 20 = .ok (.iconst 4, 1) := dk_7 (dk_at dksX0_back_0 20 rfl rfl)
theorem dX0_back_21 : decode cX0_back 21 = .ok (.invokestatic 526, 3) := dk_184 2 14 (dk_at dksX0_back_0 21 rfl rfl)
theorem dX0_back_24 : decode cX0_back 24 = .ok (.aload_n 0, 1) := dk_42 (dk_at dksX0_back_1 0 rfl rfl)
theorem dX0_back_25 : decode cX0_back 25 = .ok (.aload_n 0, 1) := dk_42 (dk_at dksX0_back_1 1 rfl rfl)
theorem dX0_back_26 : decode cX0_back 26 = .ok (.getfield 326, 3) := dk_180 1 70 (dk_at dksX0_back_1 2 rfl rfl)
theorem dX0_back_29 : decode cX0_back 29 = .ok (.iconst 0, 1) := dk_3 (dk_at dksX0_back_1 5 rfl rfl)
theorem dX0_back_30 : decode cX0_back 30 = .ok (.iaload, 1) := dk_46 (dk_at dksX0_back_1 6 rfl rfl)
theorem dX0_back_31 : decode cX0_back 31 = .ok (.putfield 18, 3) := dk_181 0 18 (dk_at dksX0_back_1 7 rfl rfl)
theorem dX0_back_34 : decode cX0_back 34 = .ok (.aload_n 0, 1) := dk_42 (dk_at dksX0_back_1 10 rfl rfl)
theorem dX0_back_35 : decode cX0_back 35 = .ok (.aload_n 0, 1) := dk_42 (dk_at dksX0_back_1 11 rfl rfl)
theorem dX0_back_36 : decode cX0_back 36 = .ok (.getfield 326, 3) := dk_180 1 70 (dk_at dksX0_back_1 12 rfl rfl)
theorem dX0_back_39 : decode cX0_back 39 = .ok (.iconst 1, 1) := dk_4 (dk_at dksX0_back_1 15 rfl rfl)
theorem dX0_back_40 : decode cX0_back 40 = .ok (.iaload, 1) := dk_46 (dk_at dksX0_back_1 16 rfl rfl)
theorem dX0_back_41 : decode cX0_back 41 = .ok (.putfield 68, 3) := dk_181 0 68 (dk_at dksX0_back_1 17 rfl rfl)
theorem dX0_back_44 : decode cX0_back 44 = .ok (.aload_n 0, 1) := dk_42 (dk_at dksX0_back_1 20 rfl rfl)
theorem dX0_back_45 : decode cX0_back 45 = .ok (.aload_n 0, 1) := dk_42 (dk_at dksX0_back_1 21 rfl rfl)
theorem dX0_back_46 : decode cX0_back 46 = .ok (.getfield 326, 3) := dk_180 1 70 (dk_at dksX0_back_2 0 rfl rfl)
theorem dX0_back_49 : decode cX0_back 49 = .ok (.iconst 2, 1) := dk_5 (dk_at dksX0_back_2 3 rfl rfl)
theorem dX0_back_50 : decode cX0_back 50 = .ok (.iaload, 1) := dk_46 (dk_at dksX0_back_2 4 rfl rfl)
theorem dX0_back_51 : decode cX0_back 51 = .ok (.putfield 345, 3) := dk_181 1 89 (dk_at dksX0_back_2 5 rfl rfl)
theorem dX0_back_54 : decode cX0_back 54 = .ok (.iconst 0, 1) := dk_3 (dk_at dksX0_back_2 8 rfl rfl)
theorem dX0_back_55 : decode cX0_back 55 = .ok (.istore_n 1, 1) := dk_60 (dk_at dksX0_back_2 9 rfl rfl)
theorem dX0_back_56 : decode cX0_back 56 = .ok (.iload_n 1, 1) := dk_27 (dk_at dksX0_back_2 10 rfl rfl)
theorem dX0_back_57 : decode cX0_back 57 = .ok (.aload_n 0, 1) := dk_42 (dk_at dksX0_back_2 11 rfl rfl)
theorem dX0_back_58 : decode cX0_back 58 = .ok (.getfield 18, 3) := dk_180 0 18 (dk_at dksX0_back_2 12 rfl rfl)
theorem dX0_back_61 : decode cX0_back 61 = .ok (.if_icmp .ge 103, 3) := dk_162 0 103 (dk_at dksX0_back_2 15 rfl rfl)
theorem dX0_back_64 : decode cX0_back 64 = .ok (.aload_n 0, 1) := dk_42 (dk_at dksX0_back_2 18 rfl rfl)
theorem dX0_back_65 : decode cX0_back 65 = .ok (.getfield 49, 3) := dk_180 0 49 (dk_at dksX0_back_2 19 rfl rfl)
theorem dX0_back_68 : decode cX0_back 68 = .ok (.iload_n 1, 1) := dk_27 (dk_at dksX0_back_2 22 rfl rfl)
theorem dX0_back_69 : decode cX0_back 69 = .ok (.aaload, 1) := dk_50 (dk_at dksX0_back_2 23 rfl rfl)
theorem dX0_back_70 : decode cX0_back 70 = .ok (.aload_n 0, 1) := dk_42 (dk_at dksX0_back_3 0 rfl rfl)
theorem dX0_back_71 : decode cX0_back 71 = .ok (.getfield 323, 3) := dk_180 1 67 (dk_at dksX0_back_3 1 rfl rfl)
theorem dX0_back_74 : decode cX0_back 74 = .ok (.iconst 0, 1) := dk_3 (dk_at dksX0_back_3 4 rfl rfl)
theorem dX0_back_75 : decode cX0_back 75 = .ok (.aaload, 1) := dk_50 (dk_at dksX0_back_3 5 rfl rfl)
theorem dX0_back_76 : decode cX0_back 76 = .ok (.iload_n 1, 1) := dk_27 (dk_at dksX0_back_3 6 rfl rfl)
theorem dX0_back_77 : decode cX0_back 77 = .ok (.iaload, 1) := dk_46 (dk_at dksX0_back_3 7 rfl rfl)
theorem dX0_back_78 : decode cX0_back 78 = .ok (.putfield 75, 3) := dk_181 0 75 (dk_at dksX0_back_3 8 rfl rfl)
theorem dX0_back_81 : decode cX0_back 81 = .ok (.aload_n 0, 1) := dk_42 (dk_at dksX0_back_3 11 rfl rfl)
theorem dX0_back_82 : decode cX0_back 82 = .ok (.getfield 49, 3) := dk_180 0 49 (dk_at dksX0_back_3 12 rfl rfl)
theorem dX0_back_85 : decode cX0_back 85 = .ok (.iload_n 1, 1) := dk_27 (dk_at dksX0_back_3 15 rfl rfl)
theorem dX0_back_86 : decode cX0_back 86 = .ok (.aaload, 1) := dk_50 (dk_at dksX0_back_3 16 rfl rfl)
theorem dX0_back_87 : decode cX0_back 87 = .ok (.aload_n 0, 1) := dk_42 (dk_at dksX0_back_3 17 rfl rfl)
theorem dX0_back_88 : decode cX0_back 88 = .ok (.getfield 323, 3) := dk_180 1 67 (dk_at dksX0_back_3 18 rfl rfl)
theorem dX0_back_91 : decode cX0_back 91 = .ok (.iconst 1, 1) := dk_4 (dk_at dksX0_back_3 21 rfl rfl)
theorem dX0_back_92 : decode cX0_back 92 = .ok (.aaload, 1) := dk_50 (dk_at dksX0_back_3 22 rfl rfl)
theorem dX0_back_93 : decode cX0_back 93 = .ok (.iload_n 1, 1) := dk_27 (dk_at dksX0_back_3 23 rfl rfl)
theorem dX0_back_94 : decode cX0_back 94 = .ok (.iaload, 1) := dk_46 (dk_at dksX0_back_4 0 rfl rfl)
theorem dX0_back_95 : decode cX0_back 95 = .ok (.putfield 78, 3) := dk_181 0 78 (dk_at dksX0_back_4 1 rfl rfl)
theorem dX0_back_98 : decode cX0_back 98 = .ok (.aload_n 0, 1) := dk_42 (dk_at dksX0_back_4 4 rfl rfl)
theorem dX0_back_99 : decode cX0_back 99 = .ok (.getfield 49, 3) := dk_180 0 49 (dk_at dksX0_back_4 5 rfl rfl)
theorem dX0_back_102 : decode cX0_back 102 = .ok (.iload_n 1, 1) := dk_27 (dk_at dksX0_back_4 8 rfl rfl)
theorem dX0_back_103 : decode cX0_back 103 = .ok (.aaload, 1) := dk_50 (dk_at dksX0_back_4 9 rfl rfl)
theorem dX0_back_104 : decode cX0_back 104 = .ok (.aload_n 0, 1) := dk_42 (dk_at dksX0_back_4 10 rfl rfl)
theorem dX0_back_105 : decode cX0_back 105 = .ok (.getfield 323, 3) := dk_180 1 67 (dk_at dksX0_back_4 11 rfl rfl)
theorem dX0_back_108 : decode cX0_back 108 = .ok (.iconst 2, 1) := dk_5 (dk_at dksX0_back_4 14 rfl rfl)
theorem dX0_back_109 : decode cX0_back 109 = .ok (.aaload, 1) := dk_50 (dk_at dksX0_back_4 15 rfl rfl)
theorem dX0_back_110 : decode cX0_back 110 = .ok (.iload_n 1, 1) := dk_27 (dk_at dksX0_back_4 16 rfl rfl)
theorem dX0_back_111 : decode cX0_back 111 = .ok (.iaload, 1) := dk_46 (dk_at dksX0_back_4 17 rfl rfl)
theorem dX0_back_112 : decode cX0_back 112 = .ok (.putfield 81, 3) := dk_181 0 81 (dk_at dksX0_back_4 18 rfl rfl)
theorem dX0_back_115 : decode cX0_back 115 = .ok (.aload_n 0, 1) := dk_42 (dk_at dksX0_back_4 21 rfl rfl)
theorem dX0_back_116 : decode cX0_back 116 = .ok (.getfield 49, 3) := dk_180 0 49 (dk_at dksX0_back_5 0 rfl rfl)
theorem dX0_back_119 : decode cX0_back 119 = .ok (.iload_n 1, 1) := dk_27 (dk_at dksX0_back_5 3 rfl rfl)
theorem dX0_back_120 : decode cX0_back 120 = .ok (.aaload, 1) := dk_50 (dk_at dksX0_back_5 4 rfl rfl)
theorem dX0_back_121 : decode cX0_back 121 = .ok (.aload_n 0, 1) := dk_42 (dk_at dksX0_back_5 5 rfl rfl)
theorem dX0_back_122 : decode cX0_back 122 = .ok (.getfield 323, 3) := dk_180 1 67 (dk_at dksX0_back_5 6 rfl rfl)
theorem dX0_back_125 : decode cX0_back 125 = .ok (.iconst 3, 1) := dk_6 (dk_at dksX0_back_5 9 rfl rfl)
theorem dX0_back_126 : decode cX0_back 126 = .ok (.aaload, 1) := dk_50 (dk_at dksX0_back_5 10 rfl rfl)
theorem dX0_back_127 : decode cX0_back 127 = .ok (.iload_n 1, 1) := dk_27 (dk_at dksX0_back_5 11 rfl rfl)
theorem dX0_back_128 : decode cX0_back 128 = .ok (.iaload, 1) := dk_46 (dk_at dksX0_back_5 12 rfl rfl)
theorem dX0_back_129 : decode cX0_back 129 = .ok (.putfield 95, 3) := dk_181 0 95 (dk_at dksX0_back_5 13 rfl rfl)
theorem dX0_back_132 : decode cX0_back 132 = .ok (.aload_n 0, 1) := dk_42 (dk_at dksX0_back_5 16 rfl rfl)
theorem dX0_back_133 : decode cX0_back 133 = .ok (.getfield 49, 3) := dk_180 0 49 (dk_at dksX0_back_5 17 rfl rfl)
theorem dX0_back_136 : decode cX0_back 136 = .ok (.iload_n 1, 1) := dk_27 (dk_at dksX0_back_5 20 rfl rfl)
theorem dX0_back_137 : decode cX0_back 137 = .ok (.aaload, 1) := dk_50 (dk_at dksX0_back_5 21 rfl rfl)
theorem dX0_back_138 : decode cX0_back 138 = .ok (.aload_n 0, 1) := dk_42 (dk_at dksX0_back_5 22 rfl rfl)
theorem dX0_back_139 : decode cX0_back 139 = .ok (.getfield 323, 3) := dk_180 1 67 (dk_at dksX0_back_6 0 rfl rfl)
theorem dX0_back_142 : decode cX0_back 142 = .ok (.iconst 4, 1) := dk_7 (dk_at dksX0_back_6 3 rfl rfl)
theorem dX0_back_143 : decode cX0_back 143 = .ok (.aaload, 1) := dk_50 (dk_at dksX0_back_6 4 rfl rfl)
theorem dX0_back_144 : decode cX0_back 144 = .ok (.iload_n 1, 1) := dk_27 (dk_at dksX0_back_6 5 rfl rfl)
theorem dX0_back_145 : decode cX0_back 145 = .ok (.iaload, 1) := dk_46 (dk_at dksX0_back_6 6 rfl rfl)
theorem dX0_back_146 : decode cX0_back 146 = .ok (.iconst 1, 1) := dk_4 (dk_at dksX0_back_6 7 rfl rfl)
theorem dX0_back_147 : decode cX0_back 147 = .ok (.if_icmp .ne 7, 3) := dk_160 0 7 (dk_at dksX0_back_6 8 rfl rfl)
theorem dX0_back_150 : decode cX0_back 150 = .ok (.iconst 1, 1) := dk_4 (dk_at dksX0_back_6 11 rfl rfl)
theorem dX0_back_151 : decode cX0_back 151 = .ok (.goto 4, 3) := dk_167 0 4 (dk_at dksX0_back_6 12 rfl rfl)
theorem dX0_back_154 : decode cX0_back 154 = .ok (.iconst 0, 1) := dk_3 (dk_at dksX0_back_6 15 rfl rfl)
theorem dX0_back_155 : decode cX0_back 155 = .ok (.putfield 98, 3) := dk_181 0 98 (dk_at dksX0_back_6 16 rfl rfl)
theorem dX0_back_158 : decode cX0_back 158 = .ok (.iinc 1 1, 3) := dk_132 1 1 (dk_at dksX0_back_6 19 rfl rfl)
theorem dX0_back_161 : decode cX0_back 161 = .ok (.goto (-105), 3) := dk_167 255 151 (dk_at dksX0_back_7 0 rfl rfl)
theorem dX0_back_164 : decode cX0_back 164 = .ok (.aload_n 0, 1) := dk_42 (dk_at dksX0_back_7 3 rfl rfl)
theorem dX0_back_165 : decode cX0_back 165 = .ok (.getfield 18, 3) := dk_180 0 18 (dk_at dksX0_back_7 4 rfl rfl)
theorem dX0_back_168 : decode cX0_back 168 = .ok (.ireturn, 1) := dk_172 (dk_at dksX0_back_7 7 rfl rfl)
abbrev cX0_count : ByteArray := prog_1_method_87_code
def yX0_count : MethodName := ⟨RX0, "count", "(I)I"⟩
def dkwX0_count_3 : List UInt8 := [172, 42, 180, 1, 89, 172, 16, 254, 172]
abbrev dktX0_count_3 : List UInt8 := dkwX0_count_3 ++ []
def dkwX0_count_2 : List UInt8 := [42, 180, 0, 18, 172, 42, 182, 2, 23, 172, 42, 182, 2, 26, 172, 42, 180, 1, 14, 172, 42, 180, 1, 3]
abbrev dktX0_count_2 : List UInt8 := dkwX0_count_2 ++ dktX0_count_3
def dkwX0_count_1 : List UInt8 := [170, 0, 0, 0, 0, 0, 69, 0, 0, 0, 0, 0, 0, 0, 5, 0, 0, 0, 39, 0, 0, 0, 44, 0, 0, 0, 49, 0, 0, 0, 54, 0, 0, 0, 59, 0, 0, 0, 64]
abbrev dktX0_count_1 : List UInt8 := dkwX0_count_1 ++ dktX0_count_2
def dkwX0_count_0 : List UInt8 := [27]
abbrev dktX0_count_0 : List UInt8 := dkwX0_count_0 ++ dktX0_count_1
theorem dksX0_count_0 : cX0_count.data.toList.drop 0 = dktX0_count_0 := by decide +kernel
theorem dksX0_count_1 : cX0_count.data.toList.drop 1 = dktX0_count_1 := dk_seg dksX0_count_0 1 rfl rfl
theorem dksX0_count_2 : cX0_count.data.toList.drop 40 = dktX0_count_2 := dk_seg dksX0_count_1 39 rfl rfl
theorem dksX0_count_3 : cX0_count.data.toList.drop 64 = dktX0_count_3 := dk_seg dksX0_count_2 24 rfl rfl
theorem dX0_count_0 : decode cX0_count 0 = .ok (.iload_n 1, 1) := dk_27 (dk_at dksX0_count_0 0 rfl rfl)
theorem dX0_count_1 : decode cX0_count 1 = .ok (.tableswitch 69 0 5 #[39, 44, 49, 54, 59, 64], 39) := by decide +kernel
theorem dX0_count_40 : decode cX0_count 40 = .ok (.aload_n 0, 1) := dk_42 (dk_at dksX0_count_2 0 rfl rfl)
theorem dX0_count_41 : decode cX0_count 41 = .ok (.getfield 18, 3) := dk_180 0 18 (dk_at dksX0_count_2 1 rfl rfl)
theorem dX0_count_44 : decode cX0_count 44 = .ok (.ireturn, 1) := dk_172 (dk_at dksX0_count_2 4 rfl rfl)
theorem dX0_count_45 : decode cX0_count 45 = .ok (.aload_n 0, 1) := dk_42 (dk_at dksX0_count_2 5 rfl rfl)
theorem dX0_count_46 : decode cX0_count 46 = .ok (.invokevirtual 535, 3) := dk_182 2 23 (dk_at dksX0_count_2 6 rfl rfl)
theorem dX0_count_49 : decode cX0_count 49 = .ok (.ireturn, 1) := dk_172 (dk_at dksX0_count_2 9 rfl rfl)
theorem dX0_count_50 : decode cX0_count 50 = .ok (.aload_n 0, 1) := dk_42 (dk_at dksX0_count_2 10 rfl rfl)
theorem dX0_count_51 : decode cX0_count 51 = .ok (.invokevirtual 538, 3) := dk_182 2 26 (dk_at dksX0_count_2 11 rfl rfl)
theorem dX0_count_54 : decode cX0_count 54 = .ok (.ireturn, 1) := dk_172 (dk_at dksX0_count_2 14 rfl rfl)
theorem dX0_count_55 : decode cX0_count 55 = .ok (.aload_n 0, 1) := dk_42 (dk_at dksX0_count_2 15 rfl rfl)
theorem dX0_count_56 : decode cX0_count 56 = .ok (.getfield 270, 3) := dk_180 1 14 (dk_at dksX0_count_2 16 rfl rfl)
theorem dX0_count_59 : decode cX0_count 59 = .ok (.ireturn, 1) := dk_172 (dk_at dksX0_count_2 19 rfl rfl)
theorem dX0_count_60 : decode cX0_count 60 = .ok (.aload_n 0, 1) := dk_42 (dk_at dksX0_count_2 20 rfl rfl)
theorem dX0_count_61 : decode cX0_count 61 = .ok (.getfield 259, 3) := dk_180 1 3 (dk_at dksX0_count_2 21 rfl rfl)
theorem dX0_count_64 : decode cX0_count 64 = .ok (.ireturn, 1) := dk_172 (dk_at dksX0_count_3 0 rfl rfl)
theorem dX0_count_65 : decode cX0_count 65 = .ok (.aload_n 0, 1) := dk_42 (dk_at dksX0_count_3 1 rfl rfl)
theorem dX0_count_66 : decode cX0_count 66 = .ok (.getfield 345, 3) := dk_180 1 89 (dk_at dksX0_count_3 2 rfl rfl)
theorem dX0_count_69 : decode cX0_count 69 = .ok (.ireturn, 1) := dk_172 (dk_at dksX0_count_3 5 rfl rfl)
theorem dX0_count_70 : decode cX0_count 70 = .ok (.bipush (-2), 2) := dk_16 254 (dk_at dksX0_count_3 6 rfl rfl)
theorem dX0_count_72 : decode cX0_count 72 = .ok (.ireturn, 1) := dk_172 (dk_at dksX0_count_3 8 rfl rfl)
abbrev cX0_inMany : ByteArray := prog_1_method_85_code
def yX0_inMany : MethodName := ⟨RX0, "inMany", "()I"⟩
def dkwX0_inMany_1 : List UInt8 := [160, 0, 7, 3, 167, 0, 4, 4, 96, 60, 132, 2, 1, 167, 255, 224, 27, 172]
abbrev dktX0_inMany_1 : List UInt8 := dkwX0_inMany_1 ++ []
def dkwX0_inMany_0 : List UInt8 := [3, 60, 3, 61, 28, 42, 180, 0, 18, 162, 0, 30, 27, 42, 180, 0, 49, 28, 50, 180, 0, 95, 2]
abbrev dktX0_inMany_0 : List UInt8 := dkwX0_inMany_0 ++ dktX0_inMany_1
theorem dksX0_inMany_0 : cX0_inMany.data.toList.drop 0 = dktX0_inMany_0 := by decide +kernel
theorem dksX0_inMany_1 : cX0_inMany.data.toList.drop 23 = dktX0_inMany_1 := dk_seg dksX0_inMany_0 23 rfl rfl
theorem dX0_inMany_0 : decode cX0_inMany 0 = .ok (.iconst 0, 1) := dk_3 (dk_at dksX0_inMany_0 0 rfl rfl)
theorem dX0_inMany_1 : decode cX0_inMany 1 = .ok (.istore_n 1, 1) := dk_60 (dk_at dksX0_inMany_0 1 rfl rfl)
theorem dX0_inMany_2 : decode cX0_inMany 2 = .ok (.iconst 0, 1) := dk_3 (dk_at dksX0_inMany_0 2 rfl rfl)
theorem dX0_inMany_3 : decode cX0_inMany 3 = .ok (.istore_n 2, 1) := dk_61 (dk_at dksX0_inMany_0 3 rfl rfl)
theorem dX0_inMany_4 : decode cX0_inMany 4 = .ok (.iload_n 2, 1) := dk_28 (dk_at dksX0_inMany_0 4 rfl rfl)
theorem dX0_inMany_5 : decode cX0_inMany 5 = .ok (.aload_n 0, 1) := dk_42 (dk_at dksX0_inMany_0 5 rfl rfl)
theorem dX0_inMany_6 : decode cX0_inMany 6 = .ok (.getfield 18, 3) := dk_180 0 18 (dk_at dksX0_inMany_0 6 rfl rfl)
theorem dX0_inMany_9 : decode cX0_inMany 9 = .ok (.if_icmp .ge 30, 3) := dk_162 0 30 (dk_at dksX0_inMany_0 9 rfl rfl)
theorem dX0_inMany_12 : decode cX0_inMany 12 = .ok (.iload_n 1, 1) := dk_27 (dk_at dksX0_inMany_0 12 rfl rfl)
theorem dX0_inMany_13 : decode cX0_inMany 13 = .ok (.aload_n 0, 1) := dk_42 (dk_at dksX0_inMany_0 13 rfl rfl)
theorem dX0_inMany_14 : decode cX0_inMany 14 = .ok (.getfield 49, 3) := dk_180 0 49 (dk_at dksX0_inMany_0 14 rfl rfl)
theorem dX0_inMany_17 : decode cX0_inMany 17 = .ok (.iload_n 2, 1) := dk_28 (dk_at dksX0_inMany_0 17 rfl rfl)
theorem dX0_inMany_18 : decode cX0_inMany 18 = .ok (.aaload, 1) := dk_50 (dk_at dksX0_inMany_0 18 rfl rfl)
theorem dX0_inMany_19 : decode cX0_inMany 19 = .ok (.getfield 95, 3) := dk_180 0 95 (dk_at dksX0_inMany_0 19 rfl rfl)
theorem dX0_inMany_22 : decode cX0_inMany 22 = .ok (.iconst (-1), 1) := dk_2 (dk_at dksX0_inMany_0 22 rfl rfl)
theorem dX0_inMany_23 : decode cX0_inMany 23 = .ok (.if_icmp .ne 7, 3) := dk_160 0 7 (dk_at dksX0_inMany_1 0 rfl rfl)
theorem dX0_inMany_26 : decode cX0_inMany 26 = .ok (.iconst 0, 1) := dk_3 (dk_at dksX0_inMany_1 3 rfl rfl)
theorem dX0_inMany_27 : decode cX0_inMany 27 = .ok (.goto 4, 3) := dk_167 0 4 (dk_at dksX0_inMany_1 4 rfl rfl)
theorem dX0_inMany_30 : decode cX0_inMany 30 = .ok (.iconst 1, 1) := dk_4 (dk_at dksX0_inMany_1 7 rfl rfl)
theorem dX0_inMany_31 : decode cX0_inMany 31 = .ok (.iadd, 1) := dk_96 (dk_at dksX0_inMany_1 8 rfl rfl)
theorem dX0_inMany_32 : decode cX0_inMany 32 = .ok (.istore_n 1, 1) := dk_60 (dk_at dksX0_inMany_1 9 rfl rfl)
theorem dX0_inMany_33 : decode cX0_inMany 33 = .ok (.iinc 2 1, 3) := dk_132 2 1 (dk_at dksX0_inMany_1 10 rfl rfl)
theorem dX0_inMany_36 : decode cX0_inMany 36 = .ok (.goto (-32), 3) := dk_167 255 224 (dk_at dksX0_inMany_1 13 rfl rfl)
theorem dX0_inMany_39 : decode cX0_inMany 39 = .ok (.iload_n 1, 1) := dk_27 (dk_at dksX0_inMany_1 16 rfl rfl)
theorem dX0_inMany_40 : decode cX0_inMany 40 = .ok (.ireturn, 1) := dk_172 (dk_at dksX0_inMany_1 17 rfl rfl)
abbrev cX0_brokenMany : ByteArray := prog_1_method_86_code
def yX0_brokenMany : MethodName := ⟨RX0, "brokenMany", "()I"⟩
def dkwX0_brokenMany_1 : List UInt8 := [153, 0, 7, 4, 167, 0, 4, 3, 96, 60, 132, 2, 1, 167, 255, 225, 27, 172]
abbrev dktX0_brokenMany_1 : List UInt8 := dkwX0_brokenMany_1 ++ []
def dkwX0_brokenMany_0 : List UInt8 := [3, 60, 3, 61, 28, 42, 180, 0, 18, 162, 0, 29, 27, 42, 180, 0, 49, 28, 50, 180, 0, 98]
abbrev dktX0_brokenMany_0 : List UInt8 := dkwX0_brokenMany_0 ++ dktX0_brokenMany_1
theorem dksX0_brokenMany_0 : cX0_brokenMany.data.toList.drop 0 = dktX0_brokenMany_0 := by decide +kernel
theorem dksX0_brokenMany_1 : cX0_brokenMany.data.toList.drop 22 = dktX0_brokenMany_1 := dk_seg dksX0_brokenMany_0 22 rfl rfl
theorem dX0_brokenMany_0 : decode cX0_brokenMany 0 = .ok (.iconst 0, 1) := dk_3 (dk_at dksX0_brokenMany_0 0 rfl rfl)
theorem dX0_brokenMany_1 : decode cX0_brokenMany 1 = .ok (.istore_n 1, 1) := dk_60 (dk_at dksX0_brokenMany_0 1 rfl rfl)
theorem dX0_brokenMany_2 : decode cX0_brokenMany 2 = .ok (.iconst 0, 1) := dk_3 (dk_at dksX0_brokenMany_0 2 rfl rfl)
theorem dX0_brokenMany_3 : decode cX0_brokenMany 3 = .ok (.istore_n 2, 1) := dk_61 (dk_at dksX0_brokenMany_0 3 rfl rfl)
theorem dX0_brokenMany_4 : decode cX0_brokenMany 4 = .ok (.iload_n 2, 1) := dk_28 (dk_at dksX0_brokenMany_0 4 rfl rfl)
theorem dX0_brokenMany_5 : decode cX0_brokenMany 5 = .ok (.aload_n 0, 1) := dk_42 (dk_at dksX0_brokenMany_0 5 rfl rfl)
theorem dX0_brokenMany_6 : decode cX0_brokenMany 6 = .ok (.getfield 18, 3) := dk_180 0 18 (dk_at dksX0_brokenMany_0 6 rfl rfl)
theorem dX0_brokenMany_9 : decode cX0_brokenMany 9 = .ok (.if_icmp .ge 29, 3) := dk_162 0 29 (dk_at dksX0_brokenMany_0 9 rfl rfl)
theorem dX0_brokenMany_12 : decode cX0_brokenMany 12 = .ok (.iload_n 1, 1) := dk_27 (dk_at dksX0_brokenMany_0 12 rfl rfl)
theorem dX0_brokenMany_13 : decode cX0_brokenMany 13 = .ok (.aload_n 0, 1) := dk_42 (dk_at dksX0_brokenMany_0 13 rfl rfl)
theorem dX0_brokenMany_14 : decode cX0_brokenMany 14 = .ok (.getfield 49, 3) := dk_180 0 49 (dk_at dksX0_brokenMany_0 14 rfl rfl)
theorem dX0_brokenMany_17 : decode cX0_brokenMany 17 = .ok (.iload_n 2, 1) := dk_28 (dk_at dksX0_brokenMany_0 17 rfl rfl)
theorem dX0_brokenMany_18 : decode cX0_brokenMany 18 = .ok (.aaload, 1) := dk_50 (dk_at dksX0_brokenMany_0 18 rfl rfl)
theorem dX0_brokenMany_19 : decode cX0_brokenMany 19 = .ok (.getfield 98, 3) := dk_180 0 98 (dk_at dksX0_brokenMany_0 19 rfl rfl)
theorem dX0_brokenMany_22 : decode cX0_brokenMany 22 = .ok (.ifCond .eq 7, 3) := dk_153 0 7 (dk_at dksX0_brokenMany_1 0 rfl rfl)
theorem dX0_brokenMany_25 : decode cX0_brokenMany 25 = .ok (.iconst 1, 1) := dk_4 (dk_at dksX0_brokenMany_1 3 rfl rfl)
theorem dX0_brokenMany_26 : decode cX0_brokenMany 26 = .ok (.goto 4, 3) := dk_167 0 4 (dk_at dksX0_brokenMany_1 4 rfl rfl)
theorem dX0_brokenMany_29 : decode cX0_brokenMany 29 = .ok (.iconst 0, 1) := dk_3 (dk_at dksX0_brokenMany_1 7 rfl rfl)
theorem dX0_brokenMany_30 : decode cX0_brokenMany 30 = .ok (.iadd, 1) := dk_96 (dk_at dksX0_brokenMany_1 8 rfl rfl)
theorem dX0_brokenMany_31 : decode cX0_brokenMany 31 = .ok (.istore_n 1, 1) := dk_60 (dk_at dksX0_brokenMany_1 9 rfl rfl)
theorem dX0_brokenMany_32 : decode cX0_brokenMany 32 = .ok (.iinc 2 1, 3) := dk_132 2 1 (dk_at dksX0_brokenMany_1 10 rfl rfl)
theorem dX0_brokenMany_35 : decode cX0_brokenMany 35 = .ok (.goto (-31), 3) := dk_167 255 225 (dk_at dksX0_brokenMany_1 13 rfl rfl)
theorem dX0_brokenMany_38 : decode cX0_brokenMany 38 = .ok (.iload_n 1, 1) := dk_27 (dk_at dksX0_brokenMany_1 16 rfl rfl)
theorem dX0_brokenMany_39 : decode cX0_brokenMany 39 = .ok (.ireturn, 1) := dk_172 (dk_at dksX0_brokenMany_1 17 rfl rfl)
abbrev cX0_copy : ByteArray := prog_1_method_97_code
def yX0_copy : MethodName := ⟨RX0, "copy", "(IIIII)I"⟩
def dkwX0_copy_6 : List UInt8 := [172, 25, 6, 28, 25, 7, 21, 4, 21, 5, 184, 2, 14, 21, 5, 172]
abbrev dktX0_copy_6 : List UInt8 := dkwX0_copy_6 ++ []
def dkwX0_copy_5 : List UInt8 := [163, 0, 22, 21, 5, 21, 8, 28, 100, 163, 0, 13, 21, 5, 21, 9, 21, 4, 100, 164, 0, 6, 16, 244]
abbrev dktX0_copy_5 : List UInt8 := dkwX0_copy_5 ++ dktX0_copy_6
def dkwX0_copy_4 : List UInt8 := [155, 0, 44, 28, 155, 0, 40, 21, 4, 155, 0, 35, 28, 21, 8, 163, 0, 29, 21, 4, 21, 9]
abbrev dktX0_copy_4 : List UInt8 := dkwX0_copy_4 ++ dktX0_copy_5
def dkwX0_copy_3 : List UInt8 := [25, 6, 184, 1, 192, 184, 1, 240, 54, 8, 25, 7, 25, 7, 184, 1, 192, 184, 1, 240, 54, 9, 21, 5]
abbrev dktX0_copy_3 : List UInt8 := dkwX0_copy_3 ++ dktX0_copy_4
def dkwX0_copy_2 : List UInt8 := [199, 0, 6, 16, 245, 172, 25, 6, 184, 1, 192, 25, 7, 184, 1, 192, 159, 0, 6, 16, 243, 172, 25, 6]
abbrev dktX0_copy_2 : List UInt8 := dkwX0_copy_2 ++ dktX0_copy_3
def dkwX0_copy_1 : List UInt8 := [180, 1, 236, 58, 6, 42, 180, 1, 76, 29, 50, 180, 1, 236, 58, 7, 25, 6, 198, 0, 8, 25, 7]
abbrev dktX0_copy_1 : List UInt8 := dkwX0_copy_1 ++ dktX0_copy_2
def dkwX0_copy_0 : List UInt8 := [27, 184, 1, 229, 153, 0, 10, 29, 184, 1, 229, 154, 0, 6, 16, 254, 172, 42, 180, 1, 76, 27, 50]
abbrev dktX0_copy_0 : List UInt8 := dkwX0_copy_0 ++ dktX0_copy_1
theorem dksX0_copy_0 : cX0_copy.data.toList.drop 0 = dktX0_copy_0 := by decide +kernel
theorem dksX0_copy_1 : cX0_copy.data.toList.drop 23 = dktX0_copy_1 := dk_seg dksX0_copy_0 23 rfl rfl
theorem dksX0_copy_2 : cX0_copy.data.toList.drop 46 = dktX0_copy_2 := dk_seg dksX0_copy_1 23 rfl rfl
theorem dksX0_copy_3 : cX0_copy.data.toList.drop 70 = dktX0_copy_3 := dk_seg dksX0_copy_2 24 rfl rfl
theorem dksX0_copy_4 : cX0_copy.data.toList.drop 94 = dktX0_copy_4 := dk_seg dksX0_copy_3 24 rfl rfl
theorem dksX0_copy_5 : cX0_copy.data.toList.drop 116 = dktX0_copy_5 := dk_seg dksX0_copy_4 22 rfl rfl
theorem dksX0_copy_6 : cX0_copy.data.toList.drop 140 = dktX0_copy_6 := dk_seg dksX0_copy_5 24 rfl rfl
theorem dX0_copy_0 : decode cX0_copy 0 = .ok (.iload_n 1, 1) := dk_27 (dk_at dksX0_copy_0 0 rfl rfl)
theorem dX0_copy_1 : decode cX0_copy 1 = .ok (.invokestatic 485, 3) := dk_184 1 229 (dk_at dksX0_copy_0 1 rfl rfl)
theorem dX0_copy_4 : decode cX0_copy 4 = .ok (.ifCond .eq 10, 3) := dk_153 0 10 (dk_at dksX0_copy_0 4 rfl rfl)
theorem dX0_copy_7 : decode cX0_copy 7 = .ok (.iload_n 3, 1) := dk_29 (dk_at dksX0_copy_0 7 rfl rfl)
theorem dX0_copy_8 : decode cX0_copy 8 = .ok (.invokestatic 485, 3) := dk_184 1 229 (dk_at dksX0_copy_0 8 rfl rfl)
theorem dX0_copy_11 : decode cX0_copy 11 = .ok (.ifCond .ne 6, 3) := dk_154 0 6 (dk_at dksX0_copy_0 11 rfl rfl)
theorem dX0_copy_14 : decode cX0_copy 14 = .ok (.bipush (-2), 2) := dk_16 254 (dk_at dksX0_copy_0 14 rfl rfl)
theorem dX0_copy_16 : decode cX0_copy 16 = .ok (.ireturn, 1) := dk_172 (dk_at dksX0_copy_0 16 rfl rfl)
theorem dX0_copy_17 : decode cX0_copy 17 = .ok (.aload_n 0, 1) := dk_42 (dk_at dksX0_copy_0 17 rfl rfl)
theorem dX0_copy_18 : decode cX0_copy 18 = .ok (.getfield 332, 3) := dk_180 1 76 (dk_at dksX0_copy_0 18 rfl rfl)
theorem dX0_copy_21 : decode cX0_copy 21 = .ok (.iload_n 1, 1) := dk_27 (dk_at dksX0_copy_0 21 rfl rfl)
theorem dX0_copy_22 : decode cX0_copy 22 = .ok (.aaload, 1) := dk_50 (dk_at dksX0_copy_0 22 rfl rfl)
theorem dX0_copy_23 : decode cX0_copy 23 = .ok (.getfield 492, 3) := dk_180 1 236 (dk_at dksX0_copy_1 0 rfl rfl)
theorem dX0_copy_26 : decode cX0_copy 26 = .ok (.astore 6, 2) := dk_58 6 (dk_at dksX0_copy_1 3 rfl rfl)
theorem dX0_copy_28 : decode cX0_copy 28 = .ok (.aload_n 0, 1) := dk_42 (dk_at dksX0_copy_1 5 rfl rfl)
theorem dX0_copy_29 : decode cX0_copy 29 = .ok (.getfield 332, 3) := dk_180 1 76 (dk_at dksX0_copy_1 6 rfl rfl)
theorem dX0_copy_32 : decode cX0_copy 32 = .ok (.iload_n 3, 1) := dk_29 (dk_at dksX0_copy_1 9 rfl rfl)
theorem dX0_copy_33 : decode cX0_copy 33 = .ok (.aaload, 1) := dk_50 (dk_at dksX0_copy_1 10 rfl rfl)
theorem dX0_copy_34 : decode cX0_copy 34 = .ok (.getfield 492, 3) := dk_180 1 236 (dk_at dksX0_copy_1 11 rfl rfl)
theorem dX0_copy_37 : decode cX0_copy 37 = .ok (.astore 7, 2) := dk_58 7 (dk_at dksX0_copy_1 14 rfl rfl)
theorem dX0_copy_39 : decode cX0_copy 39 = .ok (.aload 6, 2) := dk_25 6 (dk_at dksX0_copy_1 16 rfl rfl)
theorem dX0_copy_41 : decode cX0_copy 41 = .ok (.ifnull 8, 3) := dk_198 0 8 (dk_at dksX0_copy_1 18 rfl rfl)
theorem dX0_copy_44 : decode cX0_copy 44 = .ok (.aload 7, 2) := dk_25 7 (dk_at dksX0_copy_1 21 rfl rfl)
theorem dX0_copy_46 : decode cX0_copy 46 = .ok (.ifnonnull 6, 3) := dk_199 0 6 (dk_at dksX0_copy_2 0 rfl rfl)
theorem dX0_copy_49 : decode cX0_copy 49 = .ok (.bipush (-11), 2) := dk_16 245 (dk_at dksX0_copy_2 3 rfl rfl)
theorem dX0_copy_51 : decode cX0_copy 51 = .ok (.ireturn, 1) := dk_172 (dk_at dksX0_copy_2 5 rfl rfl)
theorem dX0_copy_52 : decode cX0_copy 52 = .ok (.aload 6, 2) := dk_25 6 (dk_at dksX0_copy_2 6 rfl rfl)
theorem dX0_copy_54 : decode cX0_copy 54 = .ok (.invokestatic 448, 3) := dk_184 1 192 (dk_at dksX0_copy_2 8 rfl rfl)
theorem dX0_copy_57 : decode cX0_copy 57 = .ok (.aload 7, 2) := dk_25 7 (dk_at dksX0_copy_2 11 rfl rfl)
theorem dX0_copy_59 : decode cX0_copy 59 = .ok (.invokestatic 448, 3) := dk_184 1 192 (dk_at dksX0_copy_2 13 rfl rfl)
theorem dX0_copy_62 : decode cX0_copy 62 = .ok (.if_icmp .eq 6, 3) := dk_159 0 6 (dk_at dksX0_copy_2 16 rfl rfl)
theorem dX0_copy_65 : decode cX0_copy 65 = .ok (.bipush (-13), 2) := dk_16 243 (dk_at dksX0_copy_2 19 rfl rfl)
theorem dX0_copy_67 : decode cX0_copy 67 = .ok (.ireturn, 1) := dk_172 (dk_at dksX0_copy_2 21 rfl rfl)
theorem dX0_copy_68 : decode cX0_copy 68 = .ok (.aload 6, 2) := dk_25 6 (dk_at dksX0_copy_2 22 rfl rfl)
theorem dX0_copy_70 : decode cX0_copy 70 = .ok (.aload 6, 2) := dk_25 6 (dk_at dksX0_copy_3 0 rfl rfl)
theorem dX0_copy_72 : decode cX0_copy 72 = .ok (.invokestatic 448, 3) := dk_184 1 192 (dk_at dksX0_copy_3 2 rfl rfl)
theorem dX0_copy_75 : decode cX0_copy 75 = .ok (.invokestatic 496, 3) := dk_184 1 240 (dk_at dksX0_copy_3 5 rfl rfl)
theorem dX0_copy_78 : decode cX0_copy 78 = .ok (.istore 8, 2) := dk_54 8 (dk_at dksX0_copy_3 8 rfl rfl)
theorem dX0_copy_80 : decode cX0_copy 80 = .ok (.aload 7, 2) := dk_25 7 (dk_at dksX0_copy_3 10 rfl rfl)
theorem dX0_copy_82 : decode cX0_copy 82 = .ok (.aload 7, 2) := dk_25 7 (dk_at dksX0_copy_3 12 rfl rfl)
theorem dX0_copy_84 : decode cX0_copy 84 = .ok (.invokestatic 448, 3) := dk_184 1 192 (dk_at dksX0_copy_3 14 rfl rfl)
theorem dX0_copy_87 : decode cX0_copy 87 = .ok (.invokestatic 496, 3) := dk_184 1 240 (dk_at dksX0_copy_3 17 rfl rfl)
theorem dX0_copy_90 : decode cX0_copy 90 = .ok (.istore 9, 2) := dk_54 9 (dk_at dksX0_copy_3 20 rfl rfl)
theorem dX0_copy_92 : decode cX0_copy 92 = .ok (.iload 5, 2) := dk_21 5 (dk_at dksX0_copy_3 22 rfl rfl)
theorem dX0_copy_94 : decode cX0_copy 94 = .ok (.ifCond .lt 44, 3) := dk_155 0 44 (dk_at dksX0_copy_4 0 rfl rfl)
theorem dX0_copy_97 : decode cX0_copy 97 = .ok (.iload_n 2, 1) := dk_28 (dk_at dksX0_copy_4 3 rfl rfl)
theorem dX0_copy_98 : decode cX0_copy 98 = .ok (.ifCond .lt 40, 3) := dk_155 0 40 (dk_at dksX0_copy_4 4 rfl rfl)
theorem dX0_copy_101 : decode cX0_copy 101 = .ok (.iload 4, 2) := dk_21 4 (dk_at dksX0_copy_4 7 rfl rfl)
theorem dX0_copy_103 : decode cX0_copy 103 = .ok (.ifCond .lt 35, 3) := dk_155 0 35 (dk_at dksX0_copy_4 9 rfl rfl)
theorem dX0_copy_106 : decode cX0_copy 106 = .ok (.iload_n 2, 1) := dk_28 (dk_at dksX0_copy_4 12 rfl rfl)
theorem dX0_copy_107 : decode cX0_copy 107 = .ok (.iload 8, 2) := dk_21 8 (dk_at dksX0_copy_4 13 rfl rfl)
theorem dX0_copy_109 : decode cX0_copy 109 = .ok (.if_icmp .gt 29, 3) := dk_163 0 29 (dk_at dksX0_copy_4 15 rfl rfl)
theorem dX0_copy_112 : decode cX0_copy 112 = .ok (.iload 4, 2) := dk_21 4 (dk_at dksX0_copy_4 18 rfl rfl)
theorem dX0_copy_114 : decode cX0_copy 114 = .ok (.iload 9, 2) := dk_21 9 (dk_at dksX0_copy_4 20 rfl rfl)
theorem dX0_copy_116 : decode cX0_copy 116 = .ok (.if_icmp .gt 22, 3) := dk_163 0 22 (dk_at dksX0_copy_5 0 rfl rfl)
theorem dX0_copy_119 : decode cX0_copy 119 = .ok (.iload 5, 2) := dk_21 5 (dk_at dksX0_copy_5 3 rfl rfl)
theorem dX0_copy_121 : decode cX0_copy 121 = .ok (.iload 8, 2) := dk_21 8 (dk_at dksX0_copy_5 5 rfl rfl)
theorem dX0_copy_123 : decode cX0_copy 123 = .ok (.iload_n 2, 1) := dk_28 (dk_at dksX0_copy_5 7 rfl rfl)
theorem dX0_copy_124 : decode cX0_copy 124 = .ok (.isub, 1) := dk_100 (dk_at dksX0_copy_5 8 rfl rfl)
theorem dX0_copy_125 : decode cX0_copy 125 = .ok (.if_icmp .gt 13, 3) := dk_163 0 13 (dk_at dksX0_copy_5 9 rfl rfl)
theorem dX0_copy_128 : decode cX0_copy 128 = .ok (.iload 5, 2) := dk_21 5 (dk_at dksX0_copy_5 12 rfl rfl)
theorem dX0_copy_130 : decode cX0_copy 130 = .ok (.iload 9, 2) := dk_21 9 (dk_at dksX0_copy_5 14 rfl rfl)
theorem dX0_copy_132 : decode cX0_copy 132 = .ok (.iload 4, 2) := dk_21 4 (dk_at dksX0_copy_5 16 rfl rfl)
theorem dX0_copy_134 : decode cX0_copy 134 = .ok (.isub, 1) := dk_100 (dk_at dksX0_copy_5 18 rfl rfl)
theorem dX0_copy_135 : decode cX0_copy 135 = .ok (.if_icmp .le 6, 3) := dk_164 0 6 (dk_at dksX0_copy_5 19 rfl rfl)
theorem dX0_copy_138 : decode cX0_copy 138 = .ok (.bipush (-12), 2) := dk_16 244 (dk_at dksX0_copy_5 22 rfl rfl)
theorem dX0_copy_140 : decode cX0_copy 140 = .ok (.ireturn, 1) := dk_172 (dk_at dksX0_copy_6 0 rfl rfl)
theorem dX0_copy_141 : decode cX0_copy 141 = .ok (.aload 6, 2) := dk_25 6 (dk_at dksX0_copy_6 1 rfl rfl)
theorem dX0_copy_143 : decode cX0_copy 143 = .ok (.iload_n 2, 1) := dk_28 (dk_at dksX0_copy_6 3 rfl rfl)
theorem dX0_copy_144 : decode cX0_copy 144 = .ok (.aload 7, 2) := dk_25 7 (dk_at dksX0_copy_6 4 rfl rfl)
theorem dX0_copy_146 : decode cX0_copy 146 = .ok (.iload 4, 2) := dk_21 4 (dk_at dksX0_copy_6 6 rfl rfl)
theorem dX0_copy_148 : decode cX0_copy 148 = .ok (.iload 5, 2) := dk_21 5 (dk_at dksX0_copy_6 8 rfl rfl)
theorem dX0_copy_150 : decode cX0_copy 150 = .ok (.invokestatic 526, 3) := dk_184 2 14 (dk_at dksX0_copy_6 10 rfl rfl)
theorem dX0_copy_153 : decode cX0_copy 153 = .ok (.iload 5, 2) := dk_21 5 (dk_at dksX0_copy_6 13 rfl rfl)
theorem dX0_copy_155 : decode cX0_copy 155 = .ok (.ireturn, 1) := dk_172 (dk_at dksX0_copy_6 15 rfl rfl)
abbrev cX0_panes : ByteArray := prog_1_method_99_code
def yX0_panes : MethodName := ⟨RX0, "panes", "(IIII)I"⟩
def dkwX0_panes_2 : List UInt8 := [21, 4, 182, 2, 57, 172, 58, 5, 16, 243, 172, 58, 5, 16, 245, 172, 58, 5, 16, 244, 172]
abbrev dktX0_panes_2 : List UInt8 := dkwX0_panes_2 ++ []
def dkwX0_panes_1 : List UInt8 := [20, 2, 55, 184, 0, 14, 154, 0, 6, 16, 254, 172, 42, 42, 180, 1, 76, 27, 50, 180, 1, 236, 28, 29]
abbrev dktX0_panes_1 : List UInt8 := dkwX0_panes_1 ++ dktX0_panes_2
def dkwX0_panes_0 : List UInt8 := [27, 184, 1, 229, 153, 0, 28, 28, 133, 9, 20, 0, 125, 184, 0, 14, 153, 0, 16, 21, 4, 133, 9]
abbrev dktX0_panes_0 : List UInt8 := dkwX0_panes_0 ++ dktX0_panes_1
theorem dksX0_panes_0 : cX0_panes.data.toList.drop 0 = dktX0_panes_0 := by decide +kernel
theorem dksX0_panes_1 : cX0_panes.data.toList.drop 23 = dktX0_panes_1 := dk_seg dksX0_panes_0 23 rfl rfl
theorem dksX0_panes_2 : cX0_panes.data.toList.drop 47 = dktX0_panes_2 := dk_seg dksX0_panes_1 24 rfl rfl
theorem dX0_panes_0 : decode cX0_panes 0 = .ok (.iload_n 1, 1) := dk_27 (dk_at dksX0_panes_0 0 rfl rfl)
theorem dX0_panes_1 : decode cX0_panes 1 = .ok (.invokestatic 485, 3) := dk_184 1 229 (dk_at dksX0_panes_0 1 rfl rfl)
theorem dX0_panes_4 : decode cX0_panes 4 = .ok (.ifCond .eq 28, 3) := dk_153 0 28 (dk_at dksX0_panes_0 4 rfl rfl)
theorem dX0_panes_7 : decode cX0_panes 7 = .ok (.iload_n 2, 1) := dk_28 (dk_at dksX0_panes_0 7 rfl rfl)
theorem dX0_panes_8 : decode cX0_panes 8 = .ok (.i2l, 1) := dk_133 (dk_at dksX0_panes_0 8 rfl rfl)
theorem dX0_panes_9 : decode cX0_panes 9 = .ok (.lconst 0, 1) := dk_9 (dk_at dksX0_panes_0 9 rfl rfl)
theorem dX0_panes_10 : decode cX0_panes 10 = .ok (.ldc2_w 125, 3) := dk_20 0 125 (dk_at dksX0_panes_0 10 rfl rfl)
theorem dX0_panes_13 : decode cX0_panes 13 = .ok (.invokestatic 14, 3) := dk_184 0 14 (dk_at dksX0_panes_0 13 rfl rfl)
theorem dX0_panes_16 : decode cX0_panes 16 = .ok (.ifCond .eq 16, 3) := dk_153 0 16 (dk_at dksX0_panes_0 16 rfl rfl)
theorem dX0_panes_19 : decode cX0_panes 19 = .ok (.iload 4, 2) := dk_21 4 (dk_at dksX0_panes_0 19 rfl rfl)
theorem dX0_panes_21 : decode cX0_panes 21 = .ok (.i2l, 1) := dk_133 (dk_at dksX0_panes_0 21 rfl rfl)
theorem dX0_panes_22 : decode cX0_panes 22 = .ok (.lconst 0, 1) := dk_9 (dk_at dksX0_panes_0 22 rfl rfl)
theorem dX0_panes_23 : decode cX0_panes 23 = .ok (.ldc2_w 567, 3) := dk_20 2 55 (dk_at dksX0_panes_1 0 rfl rfl)
theorem dX0_panes_26 : decode cX0_panes 26 = .ok (.invokestatic 14, 3) := dk_184 0 14 (dk_at dksX0_panes_1 3 rfl rfl)
theorem dX0_panes_29 : decode cX0_panes 29 = .ok (.ifCond .ne 6, 3) := dk_154 0 6 (dk_at dksX0_panes_1 6 rfl rfl)
theorem dX0_panes_32 : decode cX0_panes 32 = .ok (.bipush (-2), 2) := dk_16 254 (dk_at dksX0_panes_1 9 rfl rfl)
theorem dX0_panes_34 : decode cX0_panes 34 = .ok (.ireturn, 1) := dk_172 (dk_at dksX0_panes_1 11 rfl rfl)
theorem dX0_panes_35 : decode cX0_panes 35 = .ok (.aload_n 0, 1) := dk_42 (dk_at dksX0_panes_1 12 rfl rfl)
theorem dX0_panes_36 : decode cX0_panes 36 = .ok (.aload_n 0, 1) := dk_42 (dk_at dksX0_panes_1 13 rfl rfl)
theorem dX0_panes_37 : decode cX0_panes 37 = .ok (.getfield 332, 3) := dk_180 1 76 (dk_at dksX0_panes_1 14 rfl rfl)
theorem dX0_panes_40 : decode cX0_panes 40 = .ok (.iload_n 1, 1) := dk_27 (dk_at dksX0_panes_1 17 rfl rfl)
theorem dX0_panes_41 : decode cX0_panes 41 = .ok (.aaload, 1) := dk_50 (dk_at dksX0_panes_1 18 rfl rfl)
theorem dX0_panes_42 : decode cX0_panes 42 = .ok (.getfield 492, 3) := dk_180 1 236 (dk_at dksX0_panes_1 19 rfl rfl)
theorem dX0_panes_45 : decode cX0_panes 45 = .ok (.iload_n 2, 1) := dk_28 (dk_at dksX0_panes_1 22 rfl rfl)
theorem dX0_panes_46 : decode cX0_panes 46 = .ok (.iload_n 3, 1) := dk_29 (dk_at dksX0_panes_1 23 rfl rfl)
theorem dX0_panes_47 : decode cX0_panes 47 = .ok (.iload 4, 2) := dk_21 4 (dk_at dksX0_panes_2 0 rfl rfl)
theorem dX0_panes_49 : decode cX0_panes 49 = .ok (.invokevirtual 569, 3) := dk_182 2 57 (dk_at dksX0_panes_2 2 rfl rfl)
theorem dX0_panes_52 : decode cX0_panes 52 = .ok (.ireturn, 1) := dk_172 (dk_at dksX0_panes_2 5 rfl rfl)
theorem dX0_panes_53 : decode cX0_panes 53 = .ok (.astore 5, 2) := dk_58 5 (dk_at dksX0_panes_2 6 rfl rfl)
theorem dX0_panes_55 : decode cX0_panes 55 = .ok (.bipush (-13), 2) := dk_16 243 (dk_at dksX0_panes_2 8 rfl rfl)
theorem dX0_panes_57 : decode cX0_panes 57 = .ok (.ireturn, 1) := dk_172 (dk_at dksX0_panes_2 10 rfl rfl)
theorem dX0_panes_58 : decode cX0_panes 58 = .ok (.astore 5, 2) := dk_58 5 (dk_at dksX0_panes_2 11 rfl rfl)
theorem dX0_panes_60 : decode cX0_panes 60 = .ok (.bipush (-11), 2) := dk_16 245 (dk_at dksX0_panes_2 13 rfl rfl)
theorem dX0_panes_62 : decode cX0_panes 62 = .ok (.ireturn, 1) := dk_172 (dk_at dksX0_panes_2 15 rfl rfl)
theorem dX0_panes_63 : decode cX0_panes 63 = .ok (.astore 5, 2) := dk_58 5 (dk_at dksX0_panes_2 16 rfl rfl)
theorem dX0_panes_65 : decode cX0_panes 65 = .ok (.bipush (-12), 2) := dk_16 244 (dk_at dksX0_panes_2 18 rfl rfl)
theorem dX0_panes_67 : decode cX0_panes 67 = .ok (.ireturn, 1) := dk_172 (dk_at dksX0_panes_2 20 rfl rfl)
abbrev cX0_came : ByteArray := prog_1_method_98_code
def yX0_came : MethodName := ⟨RX0, "came", "(Ljava/lang/Object;III)I"⟩
def dkwX0_came_3 : List UInt8 := [155, 0, 7, 4, 167, 0, 4, 3, 96, 54, 6, 132, 7, 1, 167, 255, 184, 21, 6, 172]
abbrev dktX0_came_3 : List UInt8 := dkwX0_came_3 ++ []
def dkwX0_came_2 : List UInt8 := [21, 6, 42, 21, 8, 21, 9, 43, 28, 29, 6, 21, 7, 104, 96, 5, 96, 184, 1, 196, 182, 2, 52]
abbrev dktX0_came_2 : List UInt8 := dkwX0_came_2 ++ dktX0_came_3
def dkwX0_came_1 : List UInt8 := [21, 7, 104, 96, 184, 1, 196, 54, 8, 43, 28, 29, 6, 21, 7, 104, 96, 4, 96, 184, 1, 196, 54, 9]
abbrev dktX0_came_1 : List UInt8 := dkwX0_came_1 ++ dktX0_came_2
def dkwX0_came_0 : List UInt8 := [43, 28, 184, 1, 240, 54, 5, 3, 54, 6, 3, 54, 7, 21, 7, 21, 4, 162, 0, 71, 43, 28, 29, 6]
abbrev dktX0_came_0 : List UInt8 := dkwX0_came_0 ++ dktX0_came_1
theorem dksX0_came_0 : cX0_came.data.toList.drop 0 = dktX0_came_0 := by decide +kernel
theorem dksX0_came_1 : cX0_came.data.toList.drop 24 = dktX0_came_1 := dk_seg dksX0_came_0 24 rfl rfl
theorem dksX0_came_2 : cX0_came.data.toList.drop 48 = dktX0_came_2 := dk_seg dksX0_came_1 24 rfl rfl
theorem dksX0_came_3 : cX0_came.data.toList.drop 71 = dktX0_came_3 := dk_seg dksX0_came_2 23 rfl rfl
theorem dX0_came_0 : decode cX0_came 0 = .ok (.aload_n 1, 1) := dk_43 (dk_at dksX0_came_0 0 rfl rfl)
theorem dX0_came_1 : decode cX0_came 1 = .ok (.iload_n 2, 1) := dk_28 (dk_at dksX0_came_0 1 rfl rfl)
theorem dX0_came_2 : decode cX0_came 2 = .ok (.invokestatic 496, 3) := dk_184 1 240 (dk_at dksX0_came_0 2 rfl rfl)
theorem dX0_came_5 : decode cX0_came 5 = .ok (.istore 5, 2) := dk_54 5 (dk_at dksX0_came_0 5 rfl rfl)
theorem dX0_came_7 : decode cX0_came 7 = .ok (.iconst 0, 1) := dk_3 (dk_at dksX0_came_0 7 rfl rfl)
theorem dX0_came_8 : decode cX0_came 8 = .ok (.istore 6, 2) := dk_54 6 (dk_at dksX0_came_0 8 rfl rfl)
theorem dX0_came_10 : decode cX0_came 10 = .ok (.iconst 0, 1) := dk_3 (dk_at dksX0_came_0 10 rfl rfl)
theorem dX0_came_11 : decode cX0_came 11 = .ok (.istore 7, 2) := dk_54 7 (dk_at dksX0_came_0 11 rfl rfl)
theorem dX0_came_13 : decode cX0_came 13 = .ok (.iload 7, 2) := dk_21 7 (dk_at dksX0_came_0 13 rfl rfl)
theorem dX0_came_15 : decode cX0_came 15 = .ok (.iload 4, 2) := dk_21 4 (dk_at dksX0_came_0 15 rfl rfl)
theorem dX0_came_17 : decode cX0_came 17 = .ok (.if_icmp .ge 71, 3) := dk_162 0 71 (dk_at dksX0_came_0 17 rfl rfl)
theorem dX0_came_20 : decode cX0_came 20 = .ok (.aload_n 1, 1) := dk_43 (dk_at dksX0_came_0 20 rfl rfl)
theorem dX0_came_21 : decode cX0_came 21 = .ok (.iload_n 2, 1) := dk_28 (dk_at dksX0_came_0 21 rfl rfl)
theorem dX0_came_22 : decode cX0_came 22 = .ok (.iload_n 3, 1) := dk_29 (dk_at dksX0_came_0 22 rfl rfl)
theorem dX0_came_23 : decode cX0_came 23 = .ok (.iconst 3, 1) := dk_6 (dk_at dksX0_came_0 23 rfl rfl)
theorem dX0_came_24 : decode cX0_came 24 = .ok (.iload 7, 2) := dk_21 7 (dk_at dksX0_came_1 0 rfl rfl)
theorem dX0_came_26 : decode cX0_came 26 = .ok (.imul, 1) := dk_104 (dk_at dksX0_came_1 2 rfl rfl)
theorem dX0_came_27 : decode cX0_came 27 = .ok (.iadd, 1) := dk_96 (dk_at dksX0_came_1 3 rfl rfl)
theorem dX0_came_28 : decode cX0_came 28 = .ok (.invokestatic 452, 3) := dk_184 1 196 (dk_at dksX0_came_1 4 rfl rfl)
theorem dX0_came_31 : decode cX0_came 31 = .ok (.istore 8, 2) := dk_54 8 (dk_at dksX0_came_1 7 rfl rfl)
theorem dX0_came_33 : decode cX0_came 33 = .ok (.aload_n 1, 1) := dk_43 (dk_at dksX0_came_1 9 rfl rfl)
theorem dX0_came_34 : decode cX0_came 34 = .ok (.iload_n 2, 1) := dk_28 (dk_at dksX0_came_1 10 rfl rfl)
theorem dX0_came_35 : decode cX0_came 35 = .ok (.iload_n 3, 1) := dk_29 (dk_at dksX0_came_1 11 rfl rfl)
theorem dX0_came_36 : decode cX0_came 36 = .ok (.iconst 3, 1) := dk_6 (dk_at dksX0_came_1 12 rfl rfl)
theorem dX0_came_37 : decode cX0_came 37 = .ok (.iload 7, 2) := dk_21 7 (dk_at dksX0_came_1 13 rfl rfl)
theorem dX0_came_39 : decode cX0_came 39 = .ok (.imul, 1) := dk_104 (dk_at dksX0_came_1 15 rfl rfl)
theorem dX0_came_40 : decode cX0_came 40 = .ok (.iadd, 1) := dk_96 (dk_at dksX0_came_1 16 rfl rfl)
theorem dX0_came_41 : decode cX0_came 41 = .ok (.iconst 1, 1) := dk_4 (dk_at dksX0_came_1 17 rfl rfl)
theorem dX0_came_42 : decode cX0_came 42 = .ok (.iadd, 1) := dk_96 (dk_at dksX0_came_1 18 rfl rfl)
theorem dX0_came_43 : decode cX0_came 43 = .ok (.invokestatic 452, 3) := dk_184 1 196 (dk_at dksX0_came_1 19 rfl rfl)
theorem dX0_came_46 : decode cX0_came 46 = .ok (.istore 9, 2) := dk_54 9 (dk_at dksX0_came_1 22 rfl rfl)
theorem dX0_came_48 : decode cX0_came 48 = .ok (.iload 6, 2) := dk_21 6 (dk_at dksX0_came_2 0 rfl rfl)
theorem dX0_came_50 : decode cX0_came 50 = .ok (.aload_n 0, 1) := dk_42 (dk_at dksX0_came_2 2 rfl rfl)
theorem dX0_came_51 : decode cX0_came 51 = .ok (.iload 8, 2) := dk_21 8 (dk_at dksX0_came_2 3 rfl rfl)
theorem dX0_came_53 : decode cX0_came 53 = .ok (.iload 9, 2) := dk_21 9 (dk_at dksX0_came_2 5 rfl rfl)
theorem dX0_came_55 : decode cX0_came 55 = .ok (.aload_n 1, 1) := dk_43 (dk_at dksX0_came_2 7 rfl rfl)
theorem dX0_came_56 : decode cX0_came 56 = .ok (.iload_n 2, 1) := dk_28 (dk_at dksX0_came_2 8 rfl rfl)
theorem dX0_came_57 : decode cX0_came 57 = .ok (.iload_n 3, 1) := dk_29 (dk_at dksX0_came_2 9 rfl rfl)
theorem dX0_came_58 : decode cX0_came 58 = .ok (.iconst 3, 1) := dk_6 (dk_at dksX0_came_2 10 rfl rfl)
theorem dX0_came_59 : decode cX0_came 59 = .ok (.iload 7, 2) := dk_21 7 (dk_at dksX0_came_2 11 rfl rfl)
theorem dX0_came_61 : decode cX0_came 61 = .ok (.imul, 1) := dk_104 (dk_at dksX0_came_2 13 rfl rfl)
theorem dX0_came_62 : decode cX0_came 62 = .ok (.iadd, 1) := dk_96 (dk_at dksX0_came_2 14 rfl rfl)
theorem dX0_came_63 : decode cX0_came 63 = .ok (.iconst 2, 1) := dk_5 (dk_at dksX0_came_2 15 rfl rfl)
theorem dX0_came_64 : decode cX0_came 64 = .ok (.iadd, 1) := dk_96 (dk_at dksX0_came_2 16 rfl rfl)
theorem dX0_came_65 : decode cX0_came 65 = .ok (.invokestatic 452, 3) := dk_184 1 196 (dk_at dksX0_came_2 17 rfl rfl)
theorem dX0_came_68 : decode cX0_came 68 = .ok (.invokevirtual 564, 3) := dk_182 2 52 (dk_at dksX0_came_2 20 rfl rfl)
theorem dX0_came_71 : decode cX0_came 71 = .ok (.ifCond .lt 7, 3) := dk_155 0 7 (dk_at dksX0_came_3 0 rfl rfl)
theorem dX0_came_74 : decode cX0_came 74 = .ok (.iconst 1, 1) := dk_4 (dk_at dksX0_came_3 3 rfl rfl)
theorem dX0_came_75 : decode cX0_came 75 = .ok (.goto 4, 3) := dk_167 0 4 (dk_at dksX0_came_3 4 rfl rfl)
theorem dX0_came_78 : decode cX0_came 78 = .ok (.iconst 0, 1) := dk_3 (dk_at dksX0_came_3 7 rfl rfl)
theorem dX0_came_79 : decode cX0_came 79 = .ok (.iadd, 1) := dk_96 (dk_at dksX0_came_3 8 rfl rfl)
theorem dX0_came_80 : decode cX0_came 80 = .ok (.istore 6, 2) := dk_54 6 (dk_at dksX0_came_3 9 rfl rfl)
theorem dX0_came_82 : decode cX0_came 82 = .ok (.iinc 7 1, 3) := dk_132 7 1 (dk_at dksX0_came_3 11 rfl rfl)
theorem dX0_came_85 : decode cX0_came 85 = .ok (.goto (-72), 3) := dk_167 255 184 (dk_at dksX0_came_3 14 rfl rfl)
theorem dX0_came_88 : decode cX0_came 88 = .ok (.iload 6, 2) := dk_21 6 (dk_at dksX0_came_3 17 rfl rfl)
theorem dX0_came_90 : decode cX0_came 90 = .ok (.ireturn, 1) := dk_172 (dk_at dksX0_came_3 19 rfl rfl)
abbrev cX0_taken : ByteArray := prog_1_method_101_code
def yX0_taken : MethodName := ⟨RX0, "taken", "(II)I"⟩
def dkwX0_taken_2 : List UInt8 := [172]
abbrev dktX0_taken_2 : List UInt8 := dkwX0_taken_2 ++ []
def dkwX0_taken_1 : List UInt8 := [180, 0, 49, 27, 50, 167, 0, 4, 1, 28, 184, 2, 62, 180, 0, 75, 172, 78, 16, 245, 172, 78, 16, 243]
abbrev dktX0_taken_1 : List UInt8 := dkwX0_taken_1 ++ dktX0_taken_2
def dkwX0_taken_0 : List UInt8 := [28, 133, 9, 20, 0, 43, 184, 0, 14, 154, 0, 6, 16, 254, 172, 42, 27, 182, 0, 65, 153, 0, 12, 42]
abbrev dktX0_taken_0 : List UInt8 := dkwX0_taken_0 ++ dktX0_taken_1
theorem dksX0_taken_0 : cX0_taken.data.toList.drop 0 = dktX0_taken_0 := by decide +kernel
theorem dksX0_taken_1 : cX0_taken.data.toList.drop 24 = dktX0_taken_1 := dk_seg dksX0_taken_0 24 rfl rfl
theorem dksX0_taken_2 : cX0_taken.data.toList.drop 48 = dktX0_taken_2 := dk_seg dksX0_taken_1 24 rfl rfl
theorem dX0_taken_0 : decode cX0_taken 0 = .ok (.iload_n 2, 1) := dk_28 (dk_at dksX0_taken_0 0 rfl rfl)
theorem dX0_taken_1 : decode cX0_taken 1 = .ok (.i2l, 1) := dk_133 (dk_at dksX0_taken_0 1 rfl rfl)
theorem dX0_taken_2 : decode cX0_taken 2 = .ok (.lconst 0, 1) := dk_9 (dk_at dksX0_taken_0 2 rfl rfl)
theorem dX0_taken_3 : decode cX0_taken 3 = .ok (.ldc2_w 43, 3) := dk_20 0 43 (dk_at dksX0_taken_0 3 rfl rfl)
theorem dX0_taken_6 : decode cX0_taken 6 = .ok (.invokestatic 14, 3) := dk_184 0 14 (dk_at dksX0_taken_0 6 rfl rfl)
theorem dX0_taken_9 : decode cX0_taken 9 = .ok (.ifCond .ne 6, 3) := dk_154 0 6 (dk_at dksX0_taken_0 9 rfl rfl)
theorem dX0_taken_12 : decode cX0_taken 12 = .ok (.bipush (-2), 2) := dk_16 254 (dk_at dksX0_taken_0 12 rfl rfl)
theorem dX0_taken_14 : decode cX0_taken 14 = .ok (.ireturn, 1) := dk_172 (dk_at dksX0_taken_0 14 rfl rfl)
theorem dX0_taken_15 : decode cX0_taken 15 = .ok (.aload_n 0, 1) := dk_42 (dk_at dksX0_taken_0 15 rfl rfl)
theorem dX0_taken_16 : decode cX0_taken 16 = .ok (.iload_n 1, 1) := dk_27 (dk_at dksX0_taken_0 16 rfl rfl)
theorem dX0_taken_17 : decode cX0_taken 17 = .ok (.invokevirtual 65, 3) := dk_182 0 65 (dk_at dksX0_taken_0 17 rfl rfl)
theorem dX0_taken_20 : decode cX0_taken 20 = .ok (.ifCond .eq 12, 3) := dk_153 0 12 (dk_at dksX0_taken_0 20 rfl rfl)
theorem dX0_taken_23 : decode cX0_taken 23 = .ok (.aload_n 0, 1) := dk_42 (dk_at dksX0_taken_0 23 rfl rfl)
theorem dX0_taken_24 : decode cX0_taken 24 = .ok (.getfield 49, 3) := dk_180 0 49 (dk_at dksX0_taken_1 0 rfl rfl)
theorem dX0_taken_27 : decode cX0_taken 27 = .ok (.iload_n 1, 1) := dk_27 (dk_at dksX0_taken_1 3 rfl rfl)
theorem dX0_taken_28 : decode cX0_taken 28 = .ok (.aaload, 1) := dk_50 (dk_at dksX0_taken_1 4 rfl rfl)
theorem dX0_taken_29 : decode cX0_taken 29 = .ok (.goto 4, 3) := dk_167 0 4 (dk_at dksX0_taken_1 5 rfl rfl)
theorem dX0_taken_32 : decode cX0_taken 32 = .ok (.aconst_null, 1) := dk_1 (dk_at dksX0_taken_1 8 rfl rfl)
theorem dX0_taken_33 : decode cX0_taken 33 = .ok (.iload_n 2, 1) := dk_28 (dk_at dksX0_taken_1 9 rfl rfl)
theorem dX0_taken_34 : decode cX0_taken 34 = .ok (.invokestatic 574, 3) := dk_184 2 62 (dk_at dksX0_taken_1 10 rfl rfl)
theorem dX0_taken_37 : decode cX0_taken 37 = .ok (.getfield 75, 3) := dk_180 0 75 (dk_at dksX0_taken_1 13 rfl rfl)
theorem dX0_taken_40 : decode cX0_taken 40 = .ok (.ireturn, 1) := dk_172 (dk_at dksX0_taken_1 16 rfl rfl)
theorem dX0_taken_41 : decode cX0_taken 41 = .ok (.astore_n 3, 1) := dk_78 (dk_at dksX0_taken_1 17 rfl rfl)
theorem dX0_taken_42 : decode cX0_taken 42 = .ok (.bipush (-11), 2) := dk_16 245 (dk_at dksX0_taken_1 18 rfl rfl)
theorem dX0_taken_44 : decode cX0_taken 44 = .ok (.ireturn, 1) := dk_172 (dk_at dksX0_taken_1 20 rfl rfl)
theorem dX0_taken_45 : decode cX0_taken 45 = .ok (.astore_n 3, 1) := dk_78 (dk_at dksX0_taken_1 21 rfl rfl)
theorem dX0_taken_46 : decode cX0_taken 46 = .ok (.bipush (-13), 2) := dk_16 243 (dk_at dksX0_taken_1 22 rfl rfl)
theorem dX0_taken_48 : decode cX0_taken 48 = .ok (.ireturn, 1) := dk_172 (dk_at dksX0_taken_2 0 rfl rfl)
abbrev cX0_as : ByteArray := prog_1_method_100_code
def yX0_as : MethodName := ⟨RX0, "as", "(LPaneKeepsWeather$Pane;I)LPaneKeepsWeather$Pane;"⟩
def dkwX0_as_3 : List UInt8 := [176, 42, 176]
abbrev dktX0_as_3 : List UInt8 := dkwX0_as_3 ++ []
def dkwX0_as_2 : List UInt8 := [42, 192, 0, 22, 176, 42, 192, 0, 28, 176, 42, 192, 0, 31, 176, 42, 192, 0, 34, 176, 42, 192, 0, 37]
abbrev dktX0_as_2 : List UInt8 := dkwX0_as_2 ++ dktX0_as_3
def dkwX0_as_1 : List UInt8 := [170, 0, 0, 0, 0, 0, 60, 0, 0, 0, 1, 0, 0, 0, 5, 0, 0, 0, 35, 0, 0, 0, 40, 0, 0, 0, 45, 0, 0, 0, 50, 0, 0, 0, 55]
abbrev dktX0_as_1 : List UInt8 := dkwX0_as_1 ++ dktX0_as_2
def dkwX0_as_0 : List UInt8 := [27]
abbrev dktX0_as_0 : List UInt8 := dkwX0_as_0 ++ dktX0_as_1
theorem dksX0_as_0 : cX0_as.data.toList.drop 0 = dktX0_as_0 := by decide +kernel
theorem dksX0_as_1 : cX0_as.data.toList.drop 1 = dktX0_as_1 := dk_seg dksX0_as_0 1 rfl rfl
theorem dksX0_as_2 : cX0_as.data.toList.drop 36 = dktX0_as_2 := dk_seg dksX0_as_1 35 rfl rfl
theorem dksX0_as_3 : cX0_as.data.toList.drop 60 = dktX0_as_3 := dk_seg dksX0_as_2 24 rfl rfl
theorem dX0_as_0 : decode cX0_as 0 = .ok (.iload_n 1, 1) := dk_27 (dk_at dksX0_as_0 0 rfl rfl)
theorem dX0_as_1 : decode cX0_as 1 = .ok (.tableswitch 60 1 5 #[35, 40, 45, 50, 55], 35) := by decide +kernel
theorem dX0_as_36 : decode cX0_as 36 = .ok (.aload_n 0, 1) := dk_42 (dk_at dksX0_as_2 0 rfl rfl)
theorem dX0_as_37 : decode cX0_as 37 = .ok (.checkcast 22, 3) := dk_192 0 22 (dk_at dksX0_as_2 1 rfl rfl)
theorem dX0_as_40 : decode cX0_as 40 = .ok (.areturn, 1) := dk_176 (dk_at dksX0_as_2 4 rfl rfl)
theorem dX0_as_41 : decode cX0_as 41 = .ok (.aload_n 0, 1) := dk_42 (dk_at dksX0_as_2 5 rfl rfl)
theorem dX0_as_42 : decode cX0_as 42 = .ok (.checkcast 28, 3) := dk_192 0 28 (dk_at dksX0_as_2 6 rfl rfl)
theorem dX0_as_45 : decode cX0_as 45 = .ok (.areturn, 1) := dk_176 (dk_at dksX0_as_2 9 rfl rfl)
theorem dX0_as_46 : decode cX0_as 46 = .ok (.aload_n 0, 1) := dk_42 (dk_at dksX0_as_2 10 rfl rfl)
theorem dX0_as_47 : decode cX0_as 47 = .ok (.checkcast 31, 3) := dk_192 0 31 (dk_at dksX0_as_2 11 rfl rfl)
theorem dX0_as_50 : decode cX0_as 50 = .ok (.areturn, 1) := dk_176 (dk_at dksX0_as_2 14 rfl rfl)
theorem dX0_as_51 : decode cX0_as 51 = .ok (.aload_n 0, 1) := dk_42 (dk_at dksX0_as_2 15 rfl rfl)
theorem dX0_as_52 : decode cX0_as 52 = .ok (.checkcast 34, 3) := dk_192 0 34 (dk_at dksX0_as_2 16 rfl rfl)
theorem dX0_as_55 : decode cX0_as 55 = .ok (.areturn, 1) := dk_176 (dk_at dksX0_as_2 19 rfl rfl)
theorem dX0_as_56 : decode cX0_as 56 = .ok (.aload_n 0, 1) := dk_42 (dk_at dksX0_as_2 20 rfl rfl)
theorem dX0_as_57 : decode cX0_as 57 = .ok (.checkcast 37, 3) := dk_192 0 37 (dk_at dksX0_as_2 21 rfl rfl)
theorem dX0_as_60 : decode cX0_as 60 = .ok (.areturn, 1) := dk_176 (dk_at dksX0_as_3 0 rfl rfl)
theorem dX0_as_61 : decode cX0_as 61 = .ok (.aload_n 0, 1) := dk_42 (dk_at dksX0_as_3 1 rfl rfl)
theorem dX0_as_62 : decode cX0_as 62 = .ok (.areturn, 1) := dk_176 (dk_at dksX0_as_3 2 rfl rfl)
theorem q101 : (Jvm.Cond.initialized "PaneKeepsWeather") ∈ lw_all := lw_g (lw_at lw_m1 1 rfl) rfl
theorem q133 : (Jvm.Cond.instanceMethod ({ cls := "PaneKeepsWeather", name := "pane", desc := "(III)I" } : Jvm.MethodName)) ∈ lw_all := lw_g (lw_at lw_m1 33 rfl) rfl
theorem q134 : (Jvm.Cond.selects "PaneKeepsWeather" ({ cls := "PaneKeepsWeather", name := "pane", desc := "(III)I" } : Jvm.MethodName) ({ cls := "PaneKeepsWeather", name := "pane", desc := "(III)I" } : Jvm.MethodName)) ∈ lw_all := lw_g (lw_at lw_m1 34 rfl) rfl
theorem q135 : (Jvm.Cond.code ({ cls := "PaneKeepsWeather", name := "pane", desc := "(III)I" } : Jvm.MethodName) prog_1_method_6_code (4 : Nat) (Option.some Jvm.ClassFile.FieldType.int)) ∈ lw_all := lw_g (lw_at lw_m1 35 rfl) rfl
theorem q136 : (Jvm.Cond.constantLong "PaneKeepsWeather" (43 : Nat) (5 : Int64)) ∈ lw_all := lw_g (lw_at lw_m1 36 rfl) rfl
theorem q137 : (Jvm.Cond.methodLink "PaneKeepsWeather" (14 : Nat) ({ cls := "PaneKeepsWeather", name := "in", desc := "(JJJ)Z" } : Jvm.MethodName)) ∈ lw_all := lw_g (lw_at lw_m1 37 rfl) rfl
theorem q138 : (Jvm.Cond.static ({ cls := "PaneKeepsWeather", name := "in", desc := "(JJJ)Z" } : Jvm.MethodName)) ∈ lw_all := lw_g (lw_at lw_m1 38 rfl) rfl
theorem q139 : (Jvm.Cond.code ({ cls := "PaneKeepsWeather", name := "in", desc := "(JJJ)Z" } : Jvm.MethodName) prog_1_method_1_code (6 : Nat) (Option.some Jvm.ClassFile.FieldType.boolean)) ∈ lw_all := lw_g (lw_at lw_m1 39 rfl) rfl
theorem q140 : (Jvm.Cond.constantLong "PaneKeepsWeather" (45 : Nat) (9 : Int64)) ∈ lw_all := lw_g (lw_at lw_m1 40 rfl) rfl
theorem q141 : (Jvm.Cond.constantLong "PaneKeepsWeather" (47 : Nat) (364 : Int64)) ∈ lw_all := lw_g (lw_at lw_m1 41 rfl) rfl
theorem q142 : (Jvm.Cond.methodLink "PaneKeepsWeather" (53 : Nat) ({ cls := "PaneKeepsWeather", name := "made", desc := "(III)LPaneKeepsWeather$Pane;" } : Jvm.MethodName)) ∈ lw_all := lw_g (lw_at lw_m1 42 rfl) rfl
theorem q143 : (Jvm.Cond.static ({ cls := "PaneKeepsWeather", name := "made", desc := "(III)LPaneKeepsWeather$Pane;" } : Jvm.MethodName)) ∈ lw_all := lw_g (lw_at lw_m1 43 rfl) rfl
theorem q144 : (Jvm.Cond.code ({ cls := "PaneKeepsWeather", name := "made", desc := "(III)LPaneKeepsWeather$Pane;" } : Jvm.MethodName) prog_1_method_5_code (3 : Nat) (Option.some (Jvm.ClassFile.FieldType.object "PaneKeepsWeather$Pane"))) ∈ lw_all := lw_g (lw_at lw_m1 44 rfl) rfl
theorem q145 : (Jvm.Cond.classLink "PaneKeepsWeather" (22 : Nat) "PaneKeepsWeather$Storm") ∈ lw_all := lw_g (lw_at lw_m1 45 rfl) rfl
theorem q147 : (Jvm.Cond.methodLink "PaneKeepsWeather" (24 : Nat) ({ cls := "PaneKeepsWeather$Storm", name := "<init>", desc := "(II)V" } : Jvm.MethodName)) ∈ lw_all := lw_g (lw_at lw_m1 47 rfl) rfl
theorem q164 : (Jvm.Cond.fieldLink "PaneKeepsWeather" (75 : Nat) "PaneKeepsWeather$Pane" "number" "I") ∈ lw_all := lw_g (lw_at lw_m1 64 rfl) rfl
theorem q169 : (Jvm.Cond.fieldLink "PaneKeepsWeather" (78 : Nat) "PaneKeepsWeather$Pane" "day" "I") ∈ lw_all := lw_g (lw_at lw_m1 69 rfl) rfl
theorem q174 : (Jvm.Cond.fieldLink "PaneKeepsWeather" (81 : Nat) "PaneKeepsWeather$Pane" "wet" "I") ∈ lw_all := lw_g (lw_at lw_m1 74 rfl) rfl
theorem q176 : (Jvm.Cond.fieldLink "PaneKeepsWeather" (95 : Nat) "PaneKeepsWeather$Pane" "opening" "I") ∈ lw_all := lw_g (lw_at lw_m1 76 rfl) rfl
theorem q178 : (Jvm.Cond.fieldLink "PaneKeepsWeather" (98 : Nat) "PaneKeepsWeather$Pane" "broken" "Z") ∈ lw_all := lw_g (lw_at lw_m1 78 rfl) rfl
theorem q190 : (Jvm.Cond.classLink "PaneKeepsWeather" (28 : Nat) "PaneKeepsWeather$Noon") ∈ lw_all := lw_g (lw_at lw_m1 90 rfl) rfl
theorem q192 : (Jvm.Cond.methodLink "PaneKeepsWeather" (30 : Nat) ({ cls := "PaneKeepsWeather$Noon", name := "<init>", desc := "(II)V" } : Jvm.MethodName)) ∈ lw_all := lw_g (lw_at lw_m1 92 rfl) rfl
theorem q202 : (Jvm.Cond.classLink "PaneKeepsWeather" (31 : Nat) "PaneKeepsWeather$Snow") ∈ lw_all := lw_g (lw_at lw_m1 102 rfl) rfl
theorem q204 : (Jvm.Cond.methodLink "PaneKeepsWeather" (33 : Nat) ({ cls := "PaneKeepsWeather$Snow", name := "<init>", desc := "(II)V" } : Jvm.MethodName)) ∈ lw_all := lw_g (lw_at lw_m1 104 rfl) rfl
theorem q214 : (Jvm.Cond.classLink "PaneKeepsWeather" (34 : Nat) "PaneKeepsWeather$Sunday") ∈ lw_all := lw_g (lw_at lw_m1 114 rfl) rfl
theorem q216 : (Jvm.Cond.methodLink "PaneKeepsWeather" (36 : Nat) ({ cls := "PaneKeepsWeather$Sunday", name := "<init>", desc := "(II)V" } : Jvm.MethodName)) ∈ lw_all := lw_g (lw_at lw_m1 116 rfl) rfl
theorem q226 : (Jvm.Cond.classLink "PaneKeepsWeather" (37 : Nat) "PaneKeepsWeather$Dusk") ∈ lw_all := lw_g (lw_at lw_m1 126 rfl) rfl
theorem q228 : (Jvm.Cond.methodLink "PaneKeepsWeather" (39 : Nat) ({ cls := "PaneKeepsWeather$Dusk", name := "<init>", desc := "(II)V" } : Jvm.MethodName)) ∈ lw_all := lw_g (lw_at lw_m1 128 rfl) rfl
theorem q238 : (Jvm.Cond.classLink "PaneKeepsWeather" (40 : Nat) "PaneKeepsWeather$Pane") ∈ lw_all := lw_g (lw_at lw_m1 138 rfl) rfl
theorem q240 : (Jvm.Cond.methodLink "PaneKeepsWeather" (42 : Nat) ({ cls := "PaneKeepsWeather$Pane", name := "<init>", desc := "(II)V" } : Jvm.MethodName)) ∈ lw_all := lw_g (lw_at lw_m1 140 rfl) rfl
theorem q248 : (Jvm.Cond.instanceMethod ({ cls := "PaneKeepsWeather", name := "set", desc := "(III)I" } : Jvm.MethodName)) ∈ lw_all := lw_g (lw_at lw_m1 148 rfl) rfl
theorem q249 : (Jvm.Cond.selects "PaneKeepsWeather" ({ cls := "PaneKeepsWeather", name := "set", desc := "(III)I" } : Jvm.MethodName) ({ cls := "PaneKeepsWeather", name := "set", desc := "(III)I" } : Jvm.MethodName)) ∈ lw_all := lw_g (lw_at lw_m1 149 rfl) rfl
theorem q250 : (Jvm.Cond.code ({ cls := "PaneKeepsWeather", name := "set", desc := "(III)I" } : Jvm.MethodName) prog_1_method_9_code (5 : Nat) (Option.some Jvm.ClassFile.FieldType.int)) ∈ lw_all := lw_g (lw_at lw_m1 150 rfl) rfl
theorem q251 : (Jvm.Cond.methodLink "PaneKeepsWeather" (84 : Nat) ({ cls := "PaneKeepsWeather", name := "isSo", desc := "(III)Z" } : Jvm.MethodName)) ∈ lw_all := lw_g (lw_at lw_m1 151 rfl) rfl
theorem q252 : (Jvm.Cond.privateMethod ({ cls := "PaneKeepsWeather", name := "isSo", desc := "(III)Z" } : Jvm.MethodName)) ∈ lw_tbl := lw_at lw_m1 152 rfl
theorem q253 : (Jvm.Cond.instanceMethod ({ cls := "PaneKeepsWeather", name := "isSo", desc := "(III)Z" } : Jvm.MethodName)) ∈ lw_all := lw_g (lw_at lw_m1 153 rfl) rfl
theorem q254 : (Jvm.Cond.instantiable "PaneKeepsWeather" (35 : Nat)) ∈ lw_all := lw_g (lw_at lw_m1 154 rfl) rfl
theorem q255 : (Jvm.Cond.code ({ cls := "PaneKeepsWeather", name := "isSo", desc := "(III)Z" } : Jvm.MethodName) prog_1_method_7_code (4 : Nat) (Option.some Jvm.ClassFile.FieldType.boolean)) ∈ lw_all := lw_g (lw_at lw_m1 155 rfl) rfl
theorem q256 : (Jvm.Cond.constantLong "PaneKeepsWeather" (57 : Nat) (9999 : Int64)) ∈ lw_all := lw_g (lw_at lw_m1 156 rfl) rfl
theorem q257 : (Jvm.Cond.methodLink "PaneKeepsWeather" (59 : Nat) ({ cls := "PaneKeepsWeather", name := "isOpening", desc := "(I)Z" } : Jvm.MethodName)) ∈ lw_all := lw_g (lw_at lw_m1 157 rfl) rfl
theorem q258 : (Jvm.Cond.static ({ cls := "PaneKeepsWeather", name := "isOpening", desc := "(I)Z" } : Jvm.MethodName)) ∈ lw_all := lw_g (lw_at lw_m1 158 rfl) rfl
theorem q259 : (Jvm.Cond.code ({ cls := "PaneKeepsWeather", name := "isOpening", desc := "(I)Z" } : Jvm.MethodName) prog_1_method_3_code (1 : Nat) (Option.some Jvm.ClassFile.FieldType.boolean)) ∈ lw_all := lw_g (lw_at lw_m1 159 rfl) rfl
theorem q260 : (Jvm.Cond.constantLong "PaneKeepsWeather" (12 : Nat) (3 : Int64)) ∈ lw_all := lw_g (lw_at lw_m1 160 rfl) rfl
theorem q261 : (Jvm.Cond.constantLong "PaneKeepsWeather" (63 : Nat) (999 : Int64)) ∈ lw_all := lw_g (lw_at lw_m1 161 rfl) rfl
theorem q262 : (Jvm.Cond.methodLink "PaneKeepsWeather" (65 : Nat) ({ cls := "PaneKeepsWeather", name := "isPane", desc := "(I)Z" } : Jvm.MethodName)) ∈ lw_all := lw_g (lw_at lw_m1 162 rfl) rfl
theorem q263 : (Jvm.Cond.privateMethod ({ cls := "PaneKeepsWeather", name := "isPane", desc := "(I)Z" } : Jvm.MethodName)) ∈ lw_tbl := lw_at lw_m1 163 rfl
theorem q264 : (Jvm.Cond.instanceMethod ({ cls := "PaneKeepsWeather", name := "isPane", desc := "(I)Z" } : Jvm.MethodName)) ∈ lw_all := lw_g (lw_at lw_m1 164 rfl) rfl
theorem q265 : (Jvm.Cond.code ({ cls := "PaneKeepsWeather", name := "isPane", desc := "(I)Z" } : Jvm.MethodName) prog_1_method_4_code (2 : Nat) (Option.some Jvm.ClassFile.FieldType.boolean)) ∈ lw_all := lw_g (lw_at lw_m1 165 rfl) rfl
theorem q266 : (Jvm.Cond.methodLink "PaneKeepsWeather" (88 : Nat) ({ cls := "PaneKeepsWeather", name := "told", desc := "(II)I" } : Jvm.MethodName)) ∈ lw_all := lw_g (lw_at lw_m1 166 rfl) rfl
theorem q267 : (Jvm.Cond.instanceMethod ({ cls := "PaneKeepsWeather", name := "told", desc := "(II)I" } : Jvm.MethodName)) ∈ lw_all := lw_g (lw_at lw_m1 167 rfl) rfl
theorem q268 : (Jvm.Cond.selects "PaneKeepsWeather" ({ cls := "PaneKeepsWeather", name := "told", desc := "(II)I" } : Jvm.MethodName) ({ cls := "PaneKeepsWeather", name := "told", desc := "(II)I" } : Jvm.MethodName)) ∈ lw_all := lw_g (lw_at lw_m1 168 rfl) rfl
theorem q269 : (Jvm.Cond.code ({ cls := "PaneKeepsWeather", name := "told", desc := "(II)I" } : Jvm.MethodName) prog_1_method_15_code (3 : Nat) (Option.some Jvm.ClassFile.FieldType.int)) ∈ lw_all := lw_g (lw_at lw_m1 169 rfl) rfl
theorem q270 : (Jvm.Cond.methodLink "PaneKeepsWeather" (102 : Nat) ({ cls := "PaneKeepsWeather", name := "whoIn", desc := "(I)I" } : Jvm.MethodName)) ∈ lw_all := lw_g (lw_at lw_m1 170 rfl) rfl
theorem q271 : (Jvm.Cond.privateMethod ({ cls := "PaneKeepsWeather", name := "whoIn", desc := "(I)I" } : Jvm.MethodName)) ∈ lw_tbl := lw_at lw_m1 171 rfl
theorem q272 : (Jvm.Cond.instanceMethod ({ cls := "PaneKeepsWeather", name := "whoIn", desc := "(I)I" } : Jvm.MethodName)) ∈ lw_all := lw_g (lw_at lw_m1 172 rfl) rfl
theorem q273 : (Jvm.Cond.code ({ cls := "PaneKeepsWeather", name := "whoIn", desc := "(I)I" } : Jvm.MethodName) prog_1_method_10_code (3 : Nat) (Option.some Jvm.ClassFile.FieldType.int)) ∈ lw_all := lw_g (lw_at lw_m1 173 rfl) rfl
theorem q274 : (Jvm.Cond.methodLink "PaneKeepsWeather" (122 : Nat) ({ cls := "PaneKeepsWeather", name := "sumIn", desc := "(I)I" } : Jvm.MethodName)) ∈ lw_all := lw_g (lw_at lw_m1 174 rfl) rfl
theorem q275 : (Jvm.Cond.privateMethod ({ cls := "PaneKeepsWeather", name := "sumIn", desc := "(I)I" } : Jvm.MethodName)) ∈ lw_tbl := lw_at lw_m1 175 rfl
theorem q276 : (Jvm.Cond.instanceMethod ({ cls := "PaneKeepsWeather", name := "sumIn", desc := "(I)I" } : Jvm.MethodName)) ∈ lw_all := lw_g (lw_at lw_m1 176 rfl) rfl
theorem q277 : (Jvm.Cond.code ({ cls := "PaneKeepsWeather", name := "sumIn", desc := "(I)I" } : Jvm.MethodName) prog_1_method_46_code (3 : Nat) (Option.some Jvm.ClassFile.FieldType.int)) ∈ lw_all := lw_g (lw_at lw_m1 177 rfl) rfl
theorem q278 : (Jvm.Cond.methodLink "PaneKeepsWeather" (383 : Nat) ({ cls := "PaneKeepsWeather", name := "sumOf", desc := "(II)I" } : Jvm.MethodName)) ∈ lw_all := lw_g (lw_at lw_m1 178 rfl) rfl
theorem q279 : (Jvm.Cond.privateMethod ({ cls := "PaneKeepsWeather", name := "sumOf", desc := "(II)I" } : Jvm.MethodName)) ∈ lw_tbl := lw_at lw_m1 179 rfl
theorem q280 : (Jvm.Cond.instanceMethod ({ cls := "PaneKeepsWeather", name := "sumOf", desc := "(II)I" } : Jvm.MethodName)) ∈ lw_all := lw_g (lw_at lw_m1 180 rfl) rfl
theorem q281 : (Jvm.Cond.code ({ cls := "PaneKeepsWeather", name := "sumOf", desc := "(II)I" } : Jvm.MethodName) prog_1_method_45_code (5 : Nat) (Option.some Jvm.ClassFile.FieldType.int)) ∈ lw_all := lw_g (lw_at lw_m1 181 rfl) rfl
theorem q282 : (Jvm.Cond.methodLink "PaneKeepsWeather" (379 : Nat) ({ cls := "PaneKeepsWeather", name := "lightOf", desc := "(III)I" } : Jvm.MethodName)) ∈ lw_all := lw_g (lw_at lw_m1 182 rfl) rfl
theorem q283 : (Jvm.Cond.privateMethod ({ cls := "PaneKeepsWeather", name := "lightOf", desc := "(III)I" } : Jvm.MethodName)) ∈ lw_tbl := lw_at lw_m1 183 rfl
theorem q284 : (Jvm.Cond.instanceMethod ({ cls := "PaneKeepsWeather", name := "lightOf", desc := "(III)I" } : Jvm.MethodName)) ∈ lw_all := lw_g (lw_at lw_m1 184 rfl) rfl
theorem q285 : (Jvm.Cond.code ({ cls := "PaneKeepsWeather", name := "lightOf", desc := "(III)I" } : Jvm.MethodName) prog_1_method_41_code (4 : Nat) (Option.some Jvm.ClassFile.FieldType.int)) ∈ lw_all := lw_g (lw_at lw_m1 185 rfl) rfl
theorem q286 : (Jvm.Cond.methodLink "PaneKeepsWeather" (363 : Nat) ({ cls := "PaneKeepsWeather", name := "asks", desc := "(IIIII)I" } : Jvm.MethodName)) ∈ lw_all := lw_g (lw_at lw_m1 186 rfl) rfl
theorem q287 : (Jvm.Cond.privateMethod ({ cls := "PaneKeepsWeather", name := "asks", desc := "(IIIII)I" } : Jvm.MethodName)) ∈ lw_tbl := lw_at lw_m1 187 rfl
theorem q288 : (Jvm.Cond.instanceMethod ({ cls := "PaneKeepsWeather", name := "asks", desc := "(IIIII)I" } : Jvm.MethodName)) ∈ lw_all := lw_g (lw_at lw_m1 188 rfl) rfl
theorem q289 : (Jvm.Cond.code ({ cls := "PaneKeepsWeather", name := "asks", desc := "(IIIII)I" } : Jvm.MethodName) prog_1_method_40_code (7 : Nat) (Option.some Jvm.ClassFile.FieldType.int)) ∈ lw_all := lw_g (lw_at lw_m1 189 rfl) rfl
theorem q290 : (Jvm.Cond.methodLink "PaneKeepsWeather" (360 : Nat) ({ cls := "PaneKeepsWeather$Node", name := "worth", desc := "()I" } : Jvm.MethodName)) ∈ lw_all := lw_g (lw_at lw_m1 190 rfl) rfl
theorem q307 : (Jvm.Cond.methodLink "PaneKeepsWeather" (3 : Nat) ({ cls := "java/lang/Math", name := "min", desc := "(II)I" } : Jvm.MethodName)) ∈ lw_all := lw_g (lw_at lw_m1 207 rfl) rfl
theorem q310 : (Jvm.Cond.methodLink "PaneKeepsWeather" (9 : Nat) ({ cls := "java/lang/Math", name := "max", desc := "(II)I" } : Jvm.MethodName)) ∈ lw_all := lw_g (lw_at lw_m1 210 rfl) rfl
theorem q313 : (Jvm.Cond.methodLink "PaneKeepsWeather" (367 : Nat) ({ cls := "PaneKeepsWeather$Pane", name := "light", desc := "(II)I" } : Jvm.MethodName)) ∈ lw_all := lw_g (lw_at lw_m1 213 rfl) rfl
theorem q341 : (Jvm.Cond.methodLink "PaneKeepsWeather" (370 : Nat) ({ cls := "PaneKeepsWeather", name := "held", desc := "(I)I" } : Jvm.MethodName)) ∈ lw_all := lw_g (lw_at lw_m2 1 rfl) rfl
theorem q342 : (Jvm.Cond.static ({ cls := "PaneKeepsWeather", name := "held", desc := "(I)I" } : Jvm.MethodName)) ∈ lw_all := lw_g (lw_at lw_m2 2 rfl) rfl
theorem q343 : (Jvm.Cond.code ({ cls := "PaneKeepsWeather", name := "held", desc := "(I)I" } : Jvm.MethodName) prog_1_method_2_code (1 : Nat) (Option.some Jvm.ClassFile.FieldType.int)) ∈ lw_all := lw_g (lw_at lw_m2 3 rfl) rfl
theorem q344 : (Jvm.Cond.constantLong "PaneKeepsWeather" (125 : Nat) (2 : Int64)) ∈ lw_all := lw_g (lw_at lw_m2 4 rfl) rfl
theorem q345 : (Jvm.Cond.methodLink "PaneKeepsWeather" (127 : Nat) ({ cls := "PaneKeepsWeather", name := "toldPane", desc := "(II)I" } : Jvm.MethodName)) ∈ lw_all := lw_g (lw_at lw_m2 5 rfl) rfl
theorem q346 : (Jvm.Cond.privateMethod ({ cls := "PaneKeepsWeather", name := "toldPane", desc := "(II)I" } : Jvm.MethodName)) ∈ lw_tbl := lw_at lw_m2 6 rfl
theorem q347 : (Jvm.Cond.instanceMethod ({ cls := "PaneKeepsWeather", name := "toldPane", desc := "(II)I" } : Jvm.MethodName)) ∈ lw_all := lw_g (lw_at lw_m2 7 rfl) rfl
theorem q348 : (Jvm.Cond.code ({ cls := "PaneKeepsWeather", name := "toldPane", desc := "(II)I" } : Jvm.MethodName) prog_1_method_14_code (4 : Nat) (Option.some Jvm.ClassFile.FieldType.int)) ∈ lw_all := lw_g (lw_at lw_m2 8 rfl) rfl
theorem q349 : (Jvm.Cond.methodLink "PaneKeepsWeather" (116 : Nat) ({ cls := "PaneKeepsWeather$Pane", name := "kind", desc := "()I" } : Jvm.MethodName)) ∈ lw_all := lw_g (lw_at lw_m2 9 rfl) rfl
theorem q374 : (Jvm.Cond.methodLink "PaneKeepsWeather" (119 : Nat) ({ cls := "PaneKeepsWeather", name := "costsOf", desc := "(I)I" } : Jvm.MethodName)) ∈ lw_all := lw_g (lw_at lw_m2 34 rfl) rfl
theorem q375 : (Jvm.Cond.privateMethod ({ cls := "PaneKeepsWeather", name := "costsOf", desc := "(I)I" } : Jvm.MethodName)) ∈ lw_tbl := lw_at lw_m2 35 rfl
theorem q376 : (Jvm.Cond.instanceMethod ({ cls := "PaneKeepsWeather", name := "costsOf", desc := "(I)I" } : Jvm.MethodName)) ∈ lw_all := lw_g (lw_at lw_m2 36 rfl) rfl
theorem q377 : (Jvm.Cond.code ({ cls := "PaneKeepsWeather", name := "costsOf", desc := "(I)I" } : Jvm.MethodName) prog_1_method_42_code (2 : Nat) (Option.some Jvm.ClassFile.FieldType.int)) ∈ lw_all := lw_g (lw_at lw_m2 37 rfl) rfl
theorem q378 : (Jvm.Cond.methodLink "PaneKeepsWeather" (373 : Nat) ({ cls := "PaneKeepsWeather$Pane", name := "costs", desc := "(I)I" } : Jvm.MethodName)) ∈ lw_all := lw_g (lw_at lw_m2 38 rfl) rfl
theorem q400 : (Jvm.Cond.methodLink "PaneKeepsWeather" (109 : Nat) ({ cls := "PaneKeepsWeather$Pane", name := "spills", desc := "()I" } : Jvm.MethodName)) ∈ lw_all := lw_g (lw_at lw_m2 60 rfl) rfl
theorem q419 : (Jvm.Cond.methodLink "PaneKeepsWeather" (91 : Nat) ({ cls := "PaneKeepsWeather", name := "becomes", desc := "(III)V" } : Jvm.MethodName)) ∈ lw_all := lw_g (lw_at lw_m2 79 rfl) rfl
theorem q420 : (Jvm.Cond.privateMethod ({ cls := "PaneKeepsWeather", name := "becomes", desc := "(III)V" } : Jvm.MethodName)) ∈ lw_tbl := lw_at lw_m2 80 rfl
theorem q421 : (Jvm.Cond.instanceMethod ({ cls := "PaneKeepsWeather", name := "becomes", desc := "(III)V" } : Jvm.MethodName)) ∈ lw_all := lw_g (lw_at lw_m2 81 rfl) rfl
theorem q422 : (Jvm.Cond.code ({ cls := "PaneKeepsWeather", name := "becomes", desc := "(III)V" } : Jvm.MethodName) prog_1_method_8_code (4 : Nat) (Option.none : Option Jvm.ClassFile.FieldType)) ∈ lw_all := lw_g (lw_at lw_m2 82 rfl) rfl
theorem q424 : (Jvm.Cond.instanceMethod ({ cls := "PaneKeepsWeather", name := "glaze", desc := "(II)I" } : Jvm.MethodName)) ∈ lw_all := lw_g (lw_at lw_m2 84 rfl) rfl
theorem q425 : (Jvm.Cond.selects "PaneKeepsWeather" ({ cls := "PaneKeepsWeather", name := "glaze", desc := "(II)I" } : Jvm.MethodName) ({ cls := "PaneKeepsWeather", name := "glaze", desc := "(II)I" } : Jvm.MethodName)) ∈ lw_all := lw_g (lw_at lw_m2 85 rfl) rfl
theorem q426 : (Jvm.Cond.code ({ cls := "PaneKeepsWeather", name := "glaze", desc := "(II)I" } : Jvm.MethodName) prog_1_method_11_code (4 : Nat) (Option.some Jvm.ClassFile.FieldType.int)) ∈ lw_all := lw_g (lw_at lw_m2 86 rfl) rfl
theorem q428 : (Jvm.Cond.instanceMethod ({ cls := "PaneKeepsWeather", name := "stone", desc := "(I)I" } : Jvm.MethodName)) ∈ lw_all := lw_g (lw_at lw_m2 88 rfl) rfl
theorem q429 : (Jvm.Cond.selects "PaneKeepsWeather" ({ cls := "PaneKeepsWeather", name := "stone", desc := "(I)I" } : Jvm.MethodName) ({ cls := "PaneKeepsWeather", name := "stone", desc := "(I)I" } : Jvm.MethodName)) ∈ lw_all := lw_g (lw_at lw_m2 89 rfl) rfl
theorem q430 : (Jvm.Cond.code ({ cls := "PaneKeepsWeather", name := "stone", desc := "(I)I" } : Jvm.MethodName) prog_1_method_13_code (3 : Nat) (Option.some Jvm.ClassFile.FieldType.int)) ∈ lw_all := lw_g (lw_at lw_m2 90 rfl) rfl
theorem q431 : (Jvm.Cond.methodLink "PaneKeepsWeather" (113 : Nat) ({ cls := "PaneKeepsWeather", name := "spilt", desc := "(I)I" } : Jvm.MethodName)) ∈ lw_all := lw_g (lw_at lw_m2 91 rfl) rfl
theorem q432 : (Jvm.Cond.privateMethod ({ cls := "PaneKeepsWeather", name := "spilt", desc := "(I)I" } : Jvm.MethodName)) ∈ lw_tbl := lw_at lw_m2 92 rfl
theorem q433 : (Jvm.Cond.instanceMethod ({ cls := "PaneKeepsWeather", name := "spilt", desc := "(I)I" } : Jvm.MethodName)) ∈ lw_all := lw_g (lw_at lw_m2 93 rfl) rfl
theorem q434 : (Jvm.Cond.code ({ cls := "PaneKeepsWeather", name := "spilt", desc := "(I)I" } : Jvm.MethodName) prog_1_method_12_code (4 : Nat) (Option.some Jvm.ClassFile.FieldType.int)) ∈ lw_all := lw_g (lw_at lw_m2 94 rfl) rfl
theorem q435 : (Jvm.Cond.methodLink "PaneKeepsWeather" (106 : Nat) ({ cls := "java/lang/Math", name := "abs", desc := "(I)I" } : Jvm.MethodName)) ∈ lw_all := lw_g (lw_at lw_m2 95 rfl) rfl
theorem q440 : (Jvm.Cond.instanceMethod ({ cls := "PaneKeepsWeather", name := "feed", desc := "(I)I" } : Jvm.MethodName)) ∈ lw_all := lw_g (lw_at lw_m2 100 rfl) rfl
theorem q441 : (Jvm.Cond.selects "PaneKeepsWeather" ({ cls := "PaneKeepsWeather", name := "feed", desc := "(I)I" } : Jvm.MethodName) ({ cls := "PaneKeepsWeather", name := "feed", desc := "(I)I" } : Jvm.MethodName)) ∈ lw_all := lw_g (lw_at lw_m2 101 rfl) rfl
theorem q442 : (Jvm.Cond.code ({ cls := "PaneKeepsWeather", name := "feed", desc := "(I)I" } : Jvm.MethodName) prog_1_method_35_code (2 : Nat) (Option.some Jvm.ClassFile.FieldType.int)) ∈ lw_all := lw_g (lw_at lw_m2 102 rfl) rfl
theorem q443 : (Jvm.Cond.constantLong "PaneKeepsWeather" (276 : Nat) (255 : Int64)) ∈ lw_all := lw_g (lw_at lw_m2 103 rfl) rfl
theorem q445 : (Jvm.Cond.instanceMethod ({ cls := "PaneKeepsWeather", name := "text", desc := "()I" } : Jvm.MethodName)) ∈ lw_all := lw_g (lw_at lw_m2 105 rfl) rfl
theorem q446 : (Jvm.Cond.selects "PaneKeepsWeather" ({ cls := "PaneKeepsWeather", name := "text", desc := "()I" } : Jvm.MethodName) ({ cls := "PaneKeepsWeather", name := "text", desc := "()I" } : Jvm.MethodName)) ∈ lw_all := lw_g (lw_at lw_m2 106 rfl) rfl
theorem q447 : (Jvm.Cond.code ({ cls := "PaneKeepsWeather", name := "text", desc := "()I" } : Jvm.MethodName) prog_1_method_36_code (1 : Nat) (Option.some Jvm.ClassFile.FieldType.int)) ∈ lw_all := lw_g (lw_at lw_m2 107 rfl) rfl
theorem q448 : (Jvm.Cond.methodLink "PaneKeepsWeather" (273 : Nat) ({ cls := "PaneKeepsWeather", name := "newText", desc := "()I" } : Jvm.MethodName)) ∈ lw_all := lw_g (lw_at lw_m2 108 rfl) rfl
theorem q449 : (Jvm.Cond.privateMethod ({ cls := "PaneKeepsWeather", name := "newText", desc := "()I" } : Jvm.MethodName)) ∈ lw_tbl := lw_at lw_m2 109 rfl
theorem q450 : (Jvm.Cond.instanceMethod ({ cls := "PaneKeepsWeather", name := "newText", desc := "()I" } : Jvm.MethodName)) ∈ lw_all := lw_g (lw_at lw_m2 110 rfl) rfl
theorem q451 : (Jvm.Cond.codeWith ({ cls := "PaneKeepsWeather", name := "newText", desc := "()I" } : Jvm.MethodName) prog_1_method_33_code (3 : Nat) (Option.some Jvm.ClassFile.FieldType.int) [((28 : Nat), (83 : Nat), (86 : Nat), (264 : Nat))]) ∈ lw_all := lw_g (lw_at lw_m2 111 rfl) rfl
theorem q452 : (Jvm.Cond.classLink "PaneKeepsWeather" (264 : Nat) "PaneKeepsWeather$Faulty") ∈ lw_all := lw_g (lw_at lw_m2 112 rfl) rfl
theorem q453 : (Jvm.Cond.classLink "PaneKeepsWeather" (262 : Nat) "PaneKeepsWeather$Node") ∈ lw_all := lw_g (lw_at lw_m2 113 rfl) rfl
theorem q455 : (Jvm.Cond.methodLink "PaneKeepsWeather" (201 : Nat) ({ cls := "PaneKeepsWeather", name := "next", desc := "()V" } : Jvm.MethodName)) ∈ lw_all := lw_g (lw_at lw_m2 115 rfl) rfl
theorem q456 : (Jvm.Cond.privateMethod ({ cls := "PaneKeepsWeather", name := "next", desc := "()V" } : Jvm.MethodName)) ∈ lw_tbl := lw_at lw_m2 116 rfl
theorem q457 : (Jvm.Cond.instanceMethod ({ cls := "PaneKeepsWeather", name := "next", desc := "()V" } : Jvm.MethodName)) ∈ lw_all := lw_g (lw_at lw_m2 117 rfl) rfl
theorem q458 : (Jvm.Cond.code ({ cls := "PaneKeepsWeather", name := "next", desc := "()V" } : Jvm.MethodName) prog_1_method_19_code (2 : Nat) (Option.none : Option Jvm.ClassFile.FieldType)) ∈ lw_all := lw_g (lw_at lw_m2 118 rfl) rfl
theorem q459 : (Jvm.Cond.methodLink "PaneKeepsWeather" (148 : Nat) ({ cls := "PaneKeepsWeather", name := "byteAt", desc := "(I)I" } : Jvm.MethodName)) ∈ lw_all := lw_g (lw_at lw_m2 119 rfl) rfl
theorem q460 : (Jvm.Cond.privateMethod ({ cls := "PaneKeepsWeather", name := "byteAt", desc := "(I)I" } : Jvm.MethodName)) ∈ lw_tbl := lw_at lw_m2 120 rfl
theorem q461 : (Jvm.Cond.instanceMethod ({ cls := "PaneKeepsWeather", name := "byteAt", desc := "(I)I" } : Jvm.MethodName)) ∈ lw_all := lw_g (lw_at lw_m2 121 rfl) rfl
theorem q462 : (Jvm.Cond.code ({ cls := "PaneKeepsWeather", name := "byteAt", desc := "(I)I" } : Jvm.MethodName) prog_1_method_16_code (2 : Nat) (Option.some Jvm.ClassFile.FieldType.int)) ∈ lw_all := lw_g (lw_at lw_m2 122 rfl) rfl
theorem q463 : (Jvm.Cond.methodLink "PaneKeepsWeather" (157 : Nat) ({ cls := "PaneKeepsWeather", name := "isLetter", desc := "(I)Z" } : Jvm.MethodName)) ∈ lw_all := lw_g (lw_at lw_m2 123 rfl) rfl
theorem q464 : (Jvm.Cond.static ({ cls := "PaneKeepsWeather", name := "isLetter", desc := "(I)Z" } : Jvm.MethodName)) ∈ lw_all := lw_g (lw_at lw_m2 124 rfl) rfl
theorem q465 : (Jvm.Cond.code ({ cls := "PaneKeepsWeather", name := "isLetter", desc := "(I)Z" } : Jvm.MethodName) prog_1_method_17_code (1 : Nat) (Option.some Jvm.ClassFile.FieldType.boolean)) ∈ lw_all := lw_g (lw_at lw_m2 125 rfl) rfl
theorem q466 : (Jvm.Cond.constantLong "PaneKeepsWeather" (137 : Nat) (97 : Int64)) ∈ lw_all := lw_g (lw_at lw_m2 126 rfl) rfl
theorem q467 : (Jvm.Cond.constantLong "PaneKeepsWeather" (139 : Nat) (122 : Int64)) ∈ lw_all := lw_g (lw_at lw_m2 127 rfl) rfl
theorem q468 : (Jvm.Cond.methodLink "PaneKeepsWeather" (160 : Nat) ({ cls := "PaneKeepsWeather", name := "word", desc := "()V" } : Jvm.MethodName)) ∈ lw_all := lw_g (lw_at lw_m2 128 rfl) rfl
theorem q469 : (Jvm.Cond.privateMethod ({ cls := "PaneKeepsWeather", name := "word", desc := "()V" } : Jvm.MethodName)) ∈ lw_tbl := lw_at lw_m2 129 rfl
theorem q470 : (Jvm.Cond.instanceMethod ({ cls := "PaneKeepsWeather", name := "word", desc := "()V" } : Jvm.MethodName)) ∈ lw_all := lw_g (lw_at lw_m2 130 rfl) rfl
theorem q471 : (Jvm.Cond.code ({ cls := "PaneKeepsWeather", name := "word", desc := "()V" } : Jvm.MethodName) prog_1_method_21_code (2 : Nat) (Option.none : Option Jvm.ClassFile.FieldType)) ∈ lw_all := lw_g (lw_at lw_m2 131 rfl) rfl
theorem q472 : (Jvm.Cond.methodLink "PaneKeepsWeather" (194 : Nat) ({ cls := "PaneKeepsWeather", name := "placeIn", desc := "([Ljava/lang/String;)I" } : Jvm.MethodName)) ∈ lw_all := lw_g (lw_at lw_m2 132 rfl) rfl
theorem q473 : (Jvm.Cond.privateMethod ({ cls := "PaneKeepsWeather", name := "placeIn", desc := "([Ljava/lang/String;)I" } : Jvm.MethodName)) ∈ lw_tbl := lw_at lw_m2 133 rfl
theorem q474 : (Jvm.Cond.instanceMethod ({ cls := "PaneKeepsWeather", name := "placeIn", desc := "([Ljava/lang/String;)I" } : Jvm.MethodName)) ∈ lw_all := lw_g (lw_at lw_m2 134 rfl) rfl
theorem q475 : (Jvm.Cond.code ({ cls := "PaneKeepsWeather", name := "placeIn", desc := "([Ljava/lang/String;)I" } : Jvm.MethodName) prog_1_method_20_code (5 : Nat) (Option.some Jvm.ClassFile.FieldType.int)) ∈ lw_all := lw_g (lw_at lw_m2 135 rfl) rfl
theorem q476 : (Jvm.Cond.methodLink "PaneKeepsWeather" (184 : Nat) ({ cls := "java/lang/String", name := "length", desc := "()I" } : Jvm.MethodName)) ∈ lw_all := lw_g (lw_at lw_m2 136 rfl) rfl
theorem q486 : (Jvm.Cond.methodLink "PaneKeepsWeather" (186 : Nat) ({ cls := "java/lang/String", name := "charAt", desc := "(I)C" } : Jvm.MethodName)) ∈ lw_all := lw_g (lw_at lw_m2 146 rfl) rfl
theorem q524 : (Jvm.Cond.methodLink "PaneKeepsWeather" (164 : Nat) ({ cls := "PaneKeepsWeather", name := "isDigit", desc := "(I)Z" } : Jvm.MethodName)) ∈ lw_all := lw_g (lw_at lw_m2 184 rfl) rfl
theorem q525 : (Jvm.Cond.static ({ cls := "PaneKeepsWeather", name := "isDigit", desc := "(I)Z" } : Jvm.MethodName)) ∈ lw_all := lw_g (lw_at lw_m2 185 rfl) rfl
theorem q526 : (Jvm.Cond.code ({ cls := "PaneKeepsWeather", name := "isDigit", desc := "(I)Z" } : Jvm.MethodName) prog_1_method_18_code (1 : Nat) (Option.some Jvm.ClassFile.FieldType.boolean)) ∈ lw_all := lw_g (lw_at lw_m2 186 rfl) rfl
theorem q527 : (Jvm.Cond.constantLong "PaneKeepsWeather" (141 : Nat) (48 : Int64)) ∈ lw_all := lw_g (lw_at lw_m2 187 rfl) rfl
theorem q528 : (Jvm.Cond.constantLong "PaneKeepsWeather" (143 : Nat) (57 : Int64)) ∈ lw_all := lw_g (lw_at lw_m2 188 rfl) rfl
theorem q529 : (Jvm.Cond.methodLink "PaneKeepsWeather" (167 : Nat) ({ cls := "PaneKeepsWeather", name := "digits", desc := "()V" } : Jvm.MethodName)) ∈ lw_all := lw_g (lw_at lw_m2 189 rfl) rfl
theorem q530 : (Jvm.Cond.privateMethod ({ cls := "PaneKeepsWeather", name := "digits", desc := "()V" } : Jvm.MethodName)) ∈ lw_tbl := lw_at lw_m2 190 rfl
theorem q531 : (Jvm.Cond.instanceMethod ({ cls := "PaneKeepsWeather", name := "digits", desc := "()V" } : Jvm.MethodName)) ∈ lw_all := lw_g (lw_at lw_m2 191 rfl) rfl
theorem q532 : (Jvm.Cond.code ({ cls := "PaneKeepsWeather", name := "digits", desc := "()V" } : Jvm.MethodName) prog_1_method_22_code (1 : Nat) (Option.none : Option Jvm.ClassFile.FieldType)) ∈ lw_all := lw_g (lw_at lw_m2 192 rfl) rfl
theorem q533 : (Jvm.Cond.stringRef "PaneKeepsWeather" (173 : Nat) "();+-*<=") ∈ lw_tbl := lw_at lw_m2 193 rfl
theorem q534 : (Jvm.Cond.methodLink "PaneKeepsWeather" (175 : Nat) ({ cls := "java/lang/String", name := "indexOf", desc := "(I)I" } : Jvm.MethodName)) ∈ lw_all := lw_g (lw_at lw_m2 194 rfl) rfl
theorem q589 : (Jvm.Cond.methodLink "PaneKeepsWeather" (215 : Nat) ({ cls := "PaneKeepsWeather", name := "isKey", desc := "(I)Z" } : Jvm.MethodName)) ∈ lw_all := lw_g (lw_at lw_m3 9 rfl) rfl
theorem q590 : (Jvm.Cond.privateMethod ({ cls := "PaneKeepsWeather", name := "isKey", desc := "(I)Z" } : Jvm.MethodName)) ∈ lw_tbl := lw_at lw_m3 10 rfl
theorem q591 : (Jvm.Cond.instanceMethod ({ cls := "PaneKeepsWeather", name := "isKey", desc := "(I)Z" } : Jvm.MethodName)) ∈ lw_all := lw_g (lw_at lw_m3 11 rfl) rfl
theorem q592 : (Jvm.Cond.code ({ cls := "PaneKeepsWeather", name := "isKey", desc := "(I)Z" } : Jvm.MethodName) prog_1_method_24_code (2 : Nat) (Option.some Jvm.ClassFile.FieldType.boolean)) ∈ lw_all := lw_g (lw_at lw_m3 12 rfl) rfl
theorem q593 : (Jvm.Cond.methodLink "PaneKeepsWeather" (207 : Nat) ({ cls := "PaneKeepsWeather", name := "need", desc := "(Z)V" } : Jvm.MethodName)) ∈ lw_all := lw_g (lw_at lw_m3 13 rfl) rfl
theorem q594 : (Jvm.Cond.privateMethod ({ cls := "PaneKeepsWeather", name := "need", desc := "(Z)V" } : Jvm.MethodName)) ∈ lw_tbl := lw_at lw_m3 14 rfl
theorem q595 : (Jvm.Cond.instanceMethod ({ cls := "PaneKeepsWeather", name := "need", desc := "(Z)V" } : Jvm.MethodName)) ∈ lw_all := lw_g (lw_at lw_m3 15 rfl) rfl
theorem q596 : (Jvm.Cond.code ({ cls := "PaneKeepsWeather", name := "need", desc := "(Z)V" } : Jvm.MethodName) prog_1_method_25_code (2 : Nat) (Option.none : Option Jvm.ClassFile.FieldType)) ∈ lw_all := lw_g (lw_at lw_m3 16 rfl) rfl
theorem q597 : (Jvm.Cond.methodLink "PaneKeepsWeather" (256 : Nat) ({ cls := "PaneKeepsWeather", name := "either", desc := "()LPaneKeepsWeather$Node;" } : Jvm.MethodName)) ∈ lw_all := lw_g (lw_at lw_m3 17 rfl) rfl
theorem q598 : (Jvm.Cond.privateMethod ({ cls := "PaneKeepsWeather", name := "either", desc := "()LPaneKeepsWeather$Node;" } : Jvm.MethodName)) ∈ lw_tbl := lw_at lw_m3 18 rfl
theorem q599 : (Jvm.Cond.instanceMethod ({ cls := "PaneKeepsWeather", name := "either", desc := "()LPaneKeepsWeather$Node;" } : Jvm.MethodName)) ∈ lw_all := lw_g (lw_at lw_m3 19 rfl) rfl
theorem q600 : (Jvm.Cond.code ({ cls := "PaneKeepsWeather", name := "either", desc := "()LPaneKeepsWeather$Node;" } : Jvm.MethodName) prog_1_method_27_code (2 : Nat) (Option.some (Jvm.ClassFile.FieldType.object "PaneKeepsWeather$Node"))) ∈ lw_all := lw_g (lw_at lw_m3 20 rfl) rfl
theorem q601 : (Jvm.Cond.methodLink "PaneKeepsWeather" (211 : Nat) ({ cls := "PaneKeepsWeather", name := "both", desc := "()LPaneKeepsWeather$Node;" } : Jvm.MethodName)) ∈ lw_all := lw_g (lw_at lw_m3 21 rfl) rfl
theorem q602 : (Jvm.Cond.privateMethod ({ cls := "PaneKeepsWeather", name := "both", desc := "()LPaneKeepsWeather$Node;" } : Jvm.MethodName)) ∈ lw_tbl := lw_at lw_m3 22 rfl
theorem q603 : (Jvm.Cond.instanceMethod ({ cls := "PaneKeepsWeather", name := "both", desc := "()LPaneKeepsWeather$Node;" } : Jvm.MethodName)) ∈ lw_all := lw_g (lw_at lw_m3 23 rfl) rfl
theorem q604 : (Jvm.Cond.code ({ cls := "PaneKeepsWeather", name := "both", desc := "()LPaneKeepsWeather$Node;" } : Jvm.MethodName) prog_1_method_28_code (2 : Nat) (Option.some (Jvm.ClassFile.FieldType.object "PaneKeepsWeather$Node"))) ∈ lw_all := lw_g (lw_at lw_m3 24 rfl) rfl
theorem q605 : (Jvm.Cond.methodLink "PaneKeepsWeather" (223 : Nat) ({ cls := "PaneKeepsWeather", name := "not", desc := "()LPaneKeepsWeather$Node;" } : Jvm.MethodName)) ∈ lw_all := lw_g (lw_at lw_m3 25 rfl) rfl
theorem q606 : (Jvm.Cond.privateMethod ({ cls := "PaneKeepsWeather", name := "not", desc := "()LPaneKeepsWeather$Node;" } : Jvm.MethodName)) ∈ lw_tbl := lw_at lw_m3 26 rfl
theorem q607 : (Jvm.Cond.instanceMethod ({ cls := "PaneKeepsWeather", name := "not", desc := "()LPaneKeepsWeather$Node;" } : Jvm.MethodName)) ∈ lw_all := lw_g (lw_at lw_m3 27 rfl) rfl
theorem q608 : (Jvm.Cond.code ({ cls := "PaneKeepsWeather", name := "not", desc := "()LPaneKeepsWeather$Node;" } : Jvm.MethodName) prog_1_method_29_code (3 : Nat) (Option.some (Jvm.ClassFile.FieldType.object "PaneKeepsWeather$Node"))) ∈ lw_all := lw_g (lw_at lw_m3 28 rfl) rfl
theorem q609 : (Jvm.Cond.methodLink "PaneKeepsWeather" (226 : Nat) ({ cls := "PaneKeepsWeather", name := "openOne", desc := "()V" } : Jvm.MethodName)) ∈ lw_all := lw_g (lw_at lw_m3 29 rfl) rfl
theorem q610 : (Jvm.Cond.privateMethod ({ cls := "PaneKeepsWeather", name := "openOne", desc := "()V" } : Jvm.MethodName)) ∈ lw_tbl := lw_at lw_m3 30 rfl
theorem q611 : (Jvm.Cond.instanceMethod ({ cls := "PaneKeepsWeather", name := "openOne", desc := "()V" } : Jvm.MethodName)) ∈ lw_all := lw_g (lw_at lw_m3 31 rfl) rfl
theorem q612 : (Jvm.Cond.code ({ cls := "PaneKeepsWeather", name := "openOne", desc := "()V" } : Jvm.MethodName) prog_1_method_26_code (1 : Nat) (Option.none : Option Jvm.ClassFile.FieldType)) ∈ lw_all := lw_g (lw_at lw_m3 32 rfl) rfl
theorem q613 : (Jvm.Cond.classLink "PaneKeepsWeather" (229 : Nat) "PaneKeepsWeather$Turned") ∈ lw_all := lw_g (lw_at lw_m3 33 rfl) rfl
theorem q615 : (Jvm.Cond.methodLink "PaneKeepsWeather" (231 : Nat) ({ cls := "PaneKeepsWeather$Turned", name := "<init>", desc := "(LPaneKeepsWeather$Node;Z)V" } : Jvm.MethodName)) ∈ lw_all := lw_g (lw_at lw_m3 35 rfl) rfl
theorem q630 : (Jvm.Cond.methodLink "PaneKeepsWeather" (234 : Nat) ({ cls := "PaneKeepsWeather", name := "plus", desc := "()LPaneKeepsWeather$Node;" } : Jvm.MethodName)) ∈ lw_all := lw_g (lw_at lw_m3 50 rfl) rfl
theorem q631 : (Jvm.Cond.privateMethod ({ cls := "PaneKeepsWeather", name := "plus", desc := "()LPaneKeepsWeather$Node;" } : Jvm.MethodName)) ∈ lw_tbl := lw_at lw_m3 51 rfl
theorem q632 : (Jvm.Cond.instanceMethod ({ cls := "PaneKeepsWeather", name := "plus", desc := "()LPaneKeepsWeather$Node;" } : Jvm.MethodName)) ∈ lw_all := lw_g (lw_at lw_m3 52 rfl) rfl
theorem q633 : (Jvm.Cond.code ({ cls := "PaneKeepsWeather", name := "plus", desc := "()LPaneKeepsWeather$Node;" } : Jvm.MethodName) prog_1_method_30_code (3 : Nat) (Option.some (Jvm.ClassFile.FieldType.object "PaneKeepsWeather$Node"))) ∈ lw_all := lw_g (lw_at lw_m3 53 rfl) rfl
theorem q634 : (Jvm.Cond.methodLink "PaneKeepsWeather" (240 : Nat) ({ cls := "PaneKeepsWeather", name := "times", desc := "()LPaneKeepsWeather$Node;" } : Jvm.MethodName)) ∈ lw_all := lw_g (lw_at lw_m3 54 rfl) rfl
theorem q635 : (Jvm.Cond.privateMethod ({ cls := "PaneKeepsWeather", name := "times", desc := "()LPaneKeepsWeather$Node;" } : Jvm.MethodName)) ∈ lw_tbl := lw_at lw_m3 55 rfl
theorem q636 : (Jvm.Cond.instanceMethod ({ cls := "PaneKeepsWeather", name := "times", desc := "()LPaneKeepsWeather$Node;" } : Jvm.MethodName)) ∈ lw_all := lw_g (lw_at lw_m3 56 rfl) rfl
theorem q637 : (Jvm.Cond.code ({ cls := "PaneKeepsWeather", name := "times", desc := "()LPaneKeepsWeather$Node;" } : Jvm.MethodName) prog_1_method_31_code (2 : Nat) (Option.some (Jvm.ClassFile.FieldType.object "PaneKeepsWeather$Node"))) ∈ lw_all := lw_g (lw_at lw_m3 57 rfl) rfl
theorem q638 : (Jvm.Cond.methodLink "PaneKeepsWeather" (243 : Nat) ({ cls := "PaneKeepsWeather", name := "one", desc := "()LPaneKeepsWeather$Node;" } : Jvm.MethodName)) ∈ lw_all := lw_g (lw_at lw_m3 58 rfl) rfl
theorem q639 : (Jvm.Cond.privateMethod ({ cls := "PaneKeepsWeather", name := "one", desc := "()LPaneKeepsWeather$Node;" } : Jvm.MethodName)) ∈ lw_tbl := lw_at lw_m3 59 rfl
theorem q640 : (Jvm.Cond.instanceMethod ({ cls := "PaneKeepsWeather", name := "one", desc := "()LPaneKeepsWeather$Node;" } : Jvm.MethodName)) ∈ lw_all := lw_g (lw_at lw_m3 60 rfl) rfl
theorem q641 : (Jvm.Cond.code ({ cls := "PaneKeepsWeather", name := "one", desc := "()LPaneKeepsWeather$Node;" } : Jvm.MethodName) prog_1_method_32_code (3 : Nat) (Option.some (Jvm.ClassFile.FieldType.object "PaneKeepsWeather$Node"))) ∈ lw_all := lw_g (lw_at lw_m3 61 rfl) rfl
theorem q642 : (Jvm.Cond.classLink "PaneKeepsWeather" (246 : Nat) "PaneKeepsWeather$Number") ∈ lw_all := lw_g (lw_at lw_m3 62 rfl) rfl
theorem q644 : (Jvm.Cond.methodLink "PaneKeepsWeather" (248 : Nat) ({ cls := "PaneKeepsWeather$Number", name := "<init>", desc := "(I)V" } : Jvm.MethodName)) ∈ lw_all := lw_g (lw_at lw_m3 64 rfl) rfl
theorem q652 : (Jvm.Cond.classLink "PaneKeepsWeather" (251 : Nat) "PaneKeepsWeather$Name") ∈ lw_all := lw_g (lw_at lw_m3 72 rfl) rfl
theorem q654 : (Jvm.Cond.methodLink "PaneKeepsWeather" (253 : Nat) ({ cls := "PaneKeepsWeather$Name", name := "<init>", desc := "(LPaneKeepsWeather;I)V" } : Jvm.MethodName)) ∈ lw_all := lw_g (lw_at lw_m3 74 rfl) rfl
theorem q665 : (Jvm.Cond.methodLink "PaneKeepsWeather" (237 : Nat) ({ cls := "PaneKeepsWeather", name := "isSign", desc := "(I)Z" } : Jvm.MethodName)) ∈ lw_all := lw_g (lw_at lw_m3 85 rfl) rfl
theorem q666 : (Jvm.Cond.privateMethod ({ cls := "PaneKeepsWeather", name := "isSign", desc := "(I)Z" } : Jvm.MethodName)) ∈ lw_tbl := lw_at lw_m3 86 rfl
theorem q667 : (Jvm.Cond.instanceMethod ({ cls := "PaneKeepsWeather", name := "isSign", desc := "(I)Z" } : Jvm.MethodName)) ∈ lw_all := lw_g (lw_at lw_m3 87 rfl) rfl
theorem q668 : (Jvm.Cond.code ({ cls := "PaneKeepsWeather", name := "isSign", desc := "(I)Z" } : Jvm.MethodName) prog_1_method_23_code (2 : Nat) (Option.some Jvm.ClassFile.FieldType.boolean)) ∈ lw_all := lw_g (lw_at lw_m3 88 rfl) rfl
theorem q669 : (Jvm.Cond.classLink "PaneKeepsWeather" (218 : Nat) "PaneKeepsWeather$Two") ∈ lw_all := lw_g (lw_at lw_m3 89 rfl) rfl
theorem q671 : (Jvm.Cond.methodLink "PaneKeepsWeather" (220 : Nat) ({ cls := "PaneKeepsWeather$Two", name := "<init>", desc := "(ILPaneKeepsWeather$Node;LPaneKeepsWeather$Node;)V" } : Jvm.MethodName)) ∈ lw_all := lw_g (lw_at lw_m3 91 rfl) rfl
theorem q687 : (Jvm.Cond.instanceMethod ({ cls := "PaneKeepsWeather", name := "<init>", desc := "()V" } : Jvm.MethodName)) ∈ lw_all := lw_g (lw_at lw_m3 107 rfl) rfl
theorem q688 : (Jvm.Cond.code ({ cls := "PaneKeepsWeather", name := "<init>", desc := "()V" } : Jvm.MethodName) prog_1_method_38_code (1 : Nat) (Option.none : Option Jvm.ClassFile.FieldType)) ∈ lw_all := lw_g (lw_at lw_m3 108 rfl) rfl
theorem q689 : (Jvm.Cond.methodLink "PaneKeepsWeather" (278 : Nat) ({ cls := "java/lang/Object", name := "<init>", desc := "()V" } : Jvm.MethodName)) ∈ lw_all := lw_g (lw_at lw_m3 109 rfl) rfl
theorem q747 : (Jvm.Cond.methodLink "PaneKeepsWeather" (282 : Nat) ({ cls := "PaneKeepsWeather$Faulty", name := "<init>", desc := "()V" } : Jvm.MethodName)) ∈ lw_all := lw_g (lw_at lw_m3 167 rfl) rfl
theorem q773 : (Jvm.Cond.classLink "PaneKeepsWeather" (283 : Nat) "[LPaneKeepsWeather$Node;") ∈ lw_all := lw_g (lw_at lw_m3 193 rfl) rfl
theorem q775 : (Jvm.Cond.classLink "PaneKeepsWeather" (176 : Nat) "java/lang/String") ∈ lw_all := lw_g (lw_at lw_m3 195 rfl) rfl
theorem q777 : (Jvm.Cond.stringRef "PaneKeepsWeather" (285 : Nat) "lights") ∈ lw_tbl := lw_at lw_m3 197 rfl
theorem q778 : (Jvm.Cond.stringRef "PaneKeepsWeather" (287 : Nat) "costs") ∈ lw_tbl := lw_at lw_m3 198 rfl
theorem q779 : (Jvm.Cond.stringRef "PaneKeepsWeather" (289 : Nat) "quarrels") ∈ lw_tbl := lw_at lw_m3 199 rfl
theorem q780 : (Jvm.Cond.stringRef "PaneKeepsWeather" (291 : Nat) "or") ∈ lw_tbl := lw_at lw_m3 200 rfl
theorem q781 : (Jvm.Cond.stringRef "PaneKeepsWeather" (293 : Nat) "and") ∈ lw_tbl := lw_at lw_m3 201 rfl
theorem q782 : (Jvm.Cond.stringRef "PaneKeepsWeather" (295 : Nat) "not") ∈ lw_tbl := lw_at lw_m3 202 rfl
theorem q783 : (Jvm.Cond.stringRef "PaneKeepsWeather" (296 : Nat) "hour") ∈ lw_tbl := lw_at lw_m3 203 rfl
theorem q784 : (Jvm.Cond.stringRef "PaneKeepsWeather" (298 : Nat) "day") ∈ lw_tbl := lw_at lw_m3 204 rfl
theorem q785 : (Jvm.Cond.stringRef "PaneKeepsWeather" (299 : Nat) "wet") ∈ lw_tbl := lw_at lw_m3 205 rfl
theorem q786 : (Jvm.Cond.stringRef "PaneKeepsWeather" (300 : Nat) "number") ∈ lw_tbl := lw_at lw_m3 206 rfl
theorem q787 : (Jvm.Cond.stringRef "PaneKeepsWeather" (301 : Nat) "opening") ∈ lw_tbl := lw_at lw_m3 207 rfl
theorem q788 : (Jvm.Cond.stringRef "PaneKeepsWeather" (302 : Nat) "between") ∈ lw_tbl := lw_at lw_m3 208 rfl
theorem q789 : (Jvm.Cond.classLink "PaneKeepsWeather" (304 : Nat) "[[I") ∈ lw_all := lw_g (lw_at lw_m3 209 rfl) rfl
theorem q791 : (Jvm.Cond.classLink "PaneKeepsWeather" (312 : Nat) "[[[Z") ∈ lw_all := lw_g (lw_at lw_m3 211 rfl) rfl
theorem q794 : (Jvm.Cond.classLink "PaneKeepsWeather" (329 : Nat) "PaneKeepsWeather$Sheet") ∈ lw_all := lw_g (lw_at lw_m3 214 rfl) rfl
theorem q797 : (Jvm.Cond.methodLinkNest "PaneKeepsWeather" (331 : Nat) ({ cls := "PaneKeepsWeather$Sheet", name := "<init>", desc := "()V" } : Jvm.MethodName) "PaneKeepsWeather") ∈ lw_tbl := lw_at lw_m3 217 rfl
theorem q801 : (Jvm.Cond.fieldLinkNest "PaneKeepsWeather" (492 : Nat) "PaneKeepsWeather$Sheet" "row" "Ljava/lang/Object;" "PaneKeepsWeather") ∈ lw_tbl := lw_at lw_m3 221 rfl
theorem q806 : (Jvm.Cond.stringRef "PaneKeepsWeather" (336 : Nat) "lights 20 + hour ; costs 10 ; quarrels between < 3 ;") ∈ lw_tbl := lw_at lw_m3 226 rfl
theorem q807 : (Jvm.Cond.methodLink "PaneKeepsWeather" (338 : Nat) ({ cls := "PaneKeepsWeather", name := "firstText", desc := "(Ljava/lang/String;)V" } : Jvm.MethodName)) ∈ lw_all := lw_g (lw_at lw_m3 227 rfl) rfl
theorem q808 : (Jvm.Cond.privateMethod ({ cls := "PaneKeepsWeather", name := "firstText", desc := "(Ljava/lang/String;)V" } : Jvm.MethodName)) ∈ lw_tbl := lw_at lw_m3 228 rfl
theorem q809 : (Jvm.Cond.instanceMethod ({ cls := "PaneKeepsWeather", name := "firstText", desc := "(Ljava/lang/String;)V" } : Jvm.MethodName)) ∈ lw_all := lw_g (lw_at lw_m3 229 rfl) rfl
theorem q810 : (Jvm.Cond.code ({ cls := "PaneKeepsWeather", name := "firstText", desc := "(Ljava/lang/String;)V" } : Jvm.MethodName) prog_1_method_34_code (3 : Nat) (Option.none : Option Jvm.ClassFile.FieldType)) ∈ lw_all := lw_g (lw_at lw_m3 230 rfl) rfl
theorem q812 : (Jvm.Cond.fieldLink "PaneKeepsWeather" (49 : Nat) "PaneKeepsWeather" "panes" "[LPaneKeepsWeather$Pane;") ∈ lw_all := lw_g (lw_at lw_m3 232 rfl) rfl
theorem q813 : (Jvm.Cond.fieldLink "PaneKeepsWeather" (18 : Nat) "PaneKeepsWeather" "many" "I") ∈ lw_all := lw_g (lw_at lw_m3 233 rfl) rfl
theorem q814 : (Jvm.Cond.fieldLink "PaneKeepsWeather" (68 : Nat) "PaneKeepsWeather" "purse" "I") ∈ lw_all := lw_g (lw_at lw_m3 234 rfl) rfl
theorem q815 : (Jvm.Cond.fieldLink "PaneKeepsWeather" (71 : Nat) "PaneKeepsWeather" "wants" "[I") ∈ lw_all := lw_g (lw_at lw_m3 235 rfl) rfl
theorem q816 : (Jvm.Cond.fieldLink "PaneKeepsWeather" (180 : Nat) "PaneKeepsWeather" "faulty" "LPaneKeepsWeather$Faulty;") ∈ lw_all := lw_g (lw_at lw_m3 236 rfl) rfl
theorem q818 : (Jvm.Cond.fieldLink "PaneKeepsWeather" (348 : Nat) "PaneKeepsWeather" "forPane" "I") ∈ lw_all := lw_g (lw_at lw_m3 238 rfl) rfl
theorem q820 : (Jvm.Cond.fieldLink "PaneKeepsWeather" (351 : Nat) "PaneKeepsWeather" "forHour" "I") ∈ lw_all := lw_g (lw_at lw_m4 0 rfl) rfl
theorem q822 : (Jvm.Cond.fieldLink "PaneKeepsWeather" (354 : Nat) "PaneKeepsWeather" "forOpening" "I") ∈ lw_all := lw_g (lw_at lw_m4 2 rfl) rfl
theorem q824 : (Jvm.Cond.fieldLink "PaneKeepsWeather" (357 : Nat) "PaneKeepsWeather" "forBetween" "I") ∈ lw_all := lw_g (lw_at lw_m4 4 rfl) rfl
theorem q825 : (Jvm.Cond.fieldLink "PaneKeepsWeather" (266 : Nat) "PaneKeepsWeather" "texts" "[[LPaneKeepsWeather$Node;") ∈ lw_all := lw_g (lw_at lw_m4 5 rfl) rfl
theorem q826 : (Jvm.Cond.fieldLink "PaneKeepsWeather" (270 : Nat) "PaneKeepsWeather" "textMany" "I") ∈ lw_all := lw_g (lw_at lw_m4 6 rfl) rfl
theorem q827 : (Jvm.Cond.fieldLink "PaneKeepsWeather" (190 : Nat) "PaneKeepsWeather" "keys" "[Ljava/lang/String;") ∈ lw_all := lw_g (lw_at lw_m4 7 rfl) rfl
theorem q828 : (Jvm.Cond.fieldLink "PaneKeepsWeather" (198 : Nat) "PaneKeepsWeather" "names" "[Ljava/lang/String;") ∈ lw_all := lw_g (lw_at lw_m4 8 rfl) rfl
theorem q829 : (Jvm.Cond.fieldLink "PaneKeepsWeather" (133 : Nat) "PaneKeepsWeather" "tape" "[B") ∈ lw_all := lw_g (lw_at lw_m4 9 rfl) rfl
theorem q830 : (Jvm.Cond.fieldLink "PaneKeepsWeather" (259 : Nat) "PaneKeepsWeather" "taped" "I") ∈ lw_all := lw_g (lw_at lw_m4 10 rfl) rfl
theorem q831 : (Jvm.Cond.fieldLink "PaneKeepsWeather" (130 : Nat) "PaneKeepsWeather" "length" "I") ∈ lw_all := lw_g (lw_at lw_m4 11 rfl) rfl
theorem q832 : (Jvm.Cond.fieldLink "PaneKeepsWeather" (145 : Nat) "PaneKeepsWeather" "at" "I") ∈ lw_all := lw_g (lw_at lw_m4 12 rfl) rfl
theorem q833 : (Jvm.Cond.fieldLink "PaneKeepsWeather" (151 : Nat) "PaneKeepsWeather" "begin" "I") ∈ lw_all := lw_g (lw_at lw_m4 13 rfl) rfl
theorem q834 : (Jvm.Cond.fieldLink "PaneKeepsWeather" (154 : Nat) "PaneKeepsWeather" "token" "I") ∈ lw_all := lw_g (lw_at lw_m4 14 rfl) rfl
theorem q835 : (Jvm.Cond.fieldLink "PaneKeepsWeather" (170 : Nat) "PaneKeepsWeather" "value" "I") ∈ lw_all := lw_g (lw_at lw_m4 15 rfl) rfl
theorem q836 : (Jvm.Cond.fieldLink "PaneKeepsWeather" (204 : Nat) "PaneKeepsWeather" "opens" "I") ∈ lw_all := lw_g (lw_at lw_m4 16 rfl) rfl
theorem q837 : (Jvm.Cond.fieldLink "PaneKeepsWeather" (345 : Nat) "PaneKeepsWeather" "rule" "I") ∈ lw_all := lw_g (lw_at lw_m4 17 rfl) rfl
theorem q838 : (Jvm.Cond.fieldLink "PaneKeepsWeather" (306 : Nat) "PaneKeepsWeather" "sums" "[[I") ∈ lw_all := lw_g (lw_at lw_m4 18 rfl) rfl
theorem q839 : (Jvm.Cond.fieldLink "PaneKeepsWeather" (309 : Nat) "PaneKeepsWeather" "prices" "[I") ∈ lw_all := lw_g (lw_at lw_m4 19 rfl) rfl
theorem q840 : (Jvm.Cond.fieldLink "PaneKeepsWeather" (314 : Nat) "PaneKeepsWeather" "quarrel" "[[[Z") ∈ lw_all := lw_g (lw_at lw_m4 20 rfl) rfl
theorem q841 : (Jvm.Cond.fieldLink "PaneKeepsWeather" (414 : Nat) "PaneKeepsWeather" "goal" "I") ∈ lw_all := lw_g (lw_at lw_m4 21 rfl) rfl
theorem q842 : (Jvm.Cond.fieldLink "PaneKeepsWeather" (405 : Nat) "PaneKeepsWeather" "hasBest" "Z") ∈ lw_all := lw_g (lw_at lw_m4 22 rfl) rfl
theorem q843 : (Jvm.Cond.fieldLink "PaneKeepsWeather" (408 : Nat) "PaneKeepsWeather" "bestValue" "I") ∈ lw_all := lw_g (lw_at lw_m4 23 rfl) rfl
theorem q844 : (Jvm.Cond.fieldLink "PaneKeepsWeather" (411 : Nat) "PaneKeepsWeather" "bestDigits" "I") ∈ lw_all := lw_g (lw_at lw_m4 24 rfl) rfl
theorem q845 : (Jvm.Cond.fieldLink "PaneKeepsWeather" (317 : Nat) "PaneKeepsWeather" "keptDays" "[I") ∈ lw_all := lw_g (lw_at lw_m4 25 rfl) rfl
theorem q846 : (Jvm.Cond.fieldLink "PaneKeepsWeather" (532 : Nat) "PaneKeepsWeather" "hasImage" "Z") ∈ lw_all := lw_g (lw_at lw_m4 26 rfl) rfl
theorem q847 : (Jvm.Cond.fieldLink "PaneKeepsWeather" (320 : Nat) "PaneKeepsWeather" "imageWants" "[I") ∈ lw_all := lw_g (lw_at lw_m4 27 rfl) rfl
theorem q848 : (Jvm.Cond.fieldLink "PaneKeepsWeather" (323 : Nat) "PaneKeepsWeather" "imagePanes" "[[I") ∈ lw_all := lw_g (lw_at lw_m4 28 rfl) rfl
theorem q849 : (Jvm.Cond.fieldLink "PaneKeepsWeather" (326 : Nat) "PaneKeepsWeather" "imageNumbers" "[I") ∈ lw_all := lw_g (lw_at lw_m4 29 rfl) rfl
theorem q850 : (Jvm.Cond.fieldLink "PaneKeepsWeather" (332 : Nat) "PaneKeepsWeather" "sheets" "[LPaneKeepsWeather$Sheet;") ∈ lw_all := lw_g (lw_at lw_m4 30 rfl) rfl
theorem q851 : (Jvm.Cond.laysFinal "PaneKeepsWeather" "PaneKeepsWeather" "panes" "[LPaneKeepsWeather$Pane;") ∈ lw_all := lw_g (lw_at lw_m4 31 rfl) rfl
theorem q852 : (Jvm.Cond.soleField "PaneKeepsWeather" "panes") ∈ lw_all := lw_g (lw_at lw_m4 32 rfl) rfl
theorem q853 : (Jvm.Cond.lays "PaneKeepsWeather" "PaneKeepsWeather" "many" "I") ∈ lw_all := lw_g (lw_at lw_m4 33 rfl) rfl
theorem q854 : (Jvm.Cond.soleField "PaneKeepsWeather" "many") ∈ lw_all := lw_g (lw_at lw_m4 34 rfl) rfl
theorem q855 : (Jvm.Cond.lays "PaneKeepsWeather" "PaneKeepsWeather" "purse" "I") ∈ lw_all := lw_g (lw_at lw_m4 35 rfl) rfl
theorem q856 : (Jvm.Cond.soleField "PaneKeepsWeather" "purse") ∈ lw_all := lw_g (lw_at lw_m4 36 rfl) rfl
theorem q857 : (Jvm.Cond.laysFinal "PaneKeepsWeather" "PaneKeepsWeather" "wants" "[I") ∈ lw_all := lw_g (lw_at lw_m4 37 rfl) rfl
theorem q858 : (Jvm.Cond.soleField "PaneKeepsWeather" "wants") ∈ lw_all := lw_g (lw_at lw_m4 38 rfl) rfl
theorem q859 : (Jvm.Cond.laysFinal "PaneKeepsWeather" "PaneKeepsWeather" "faulty" "LPaneKeepsWeather$Faulty;") ∈ lw_all := lw_g (lw_at lw_m4 39 rfl) rfl
theorem q860 : (Jvm.Cond.soleField "PaneKeepsWeather" "faulty") ∈ lw_all := lw_g (lw_at lw_m4 40 rfl) rfl
theorem q861 : (Jvm.Cond.lays "PaneKeepsWeather" "PaneKeepsWeather" "forPane" "I") ∈ lw_all := lw_g (lw_at lw_m4 41 rfl) rfl
theorem q862 : (Jvm.Cond.soleField "PaneKeepsWeather" "forPane") ∈ lw_all := lw_g (lw_at lw_m4 42 rfl) rfl
theorem q863 : (Jvm.Cond.lays "PaneKeepsWeather" "PaneKeepsWeather" "forHour" "I") ∈ lw_all := lw_g (lw_at lw_m4 43 rfl) rfl
theorem q864 : (Jvm.Cond.soleField "PaneKeepsWeather" "forHour") ∈ lw_all := lw_g (lw_at lw_m4 44 rfl) rfl
theorem q865 : (Jvm.Cond.lays "PaneKeepsWeather" "PaneKeepsWeather" "forOpening" "I") ∈ lw_all := lw_g (lw_at lw_m4 45 rfl) rfl
theorem q866 : (Jvm.Cond.soleField "PaneKeepsWeather" "forOpening") ∈ lw_all := lw_g (lw_at lw_m4 46 rfl) rfl
theorem q867 : (Jvm.Cond.lays "PaneKeepsWeather" "PaneKeepsWeather" "forBetween" "I") ∈ lw_all := lw_g (lw_at lw_m4 47 rfl) rfl
theorem q868 : (Jvm.Cond.soleField "PaneKeepsWeather" "forBetween") ∈ lw_all := lw_g (lw_at lw_m4 48 rfl) rfl
theorem q869 : (Jvm.Cond.laysFinal "PaneKeepsWeather" "PaneKeepsWeather" "texts" "[[LPaneKeepsWeather$Node;") ∈ lw_all := lw_g (lw_at lw_m4 49 rfl) rfl
theorem q870 : (Jvm.Cond.soleField "PaneKeepsWeather" "texts") ∈ lw_all := lw_g (lw_at lw_m4 50 rfl) rfl
theorem q871 : (Jvm.Cond.lays "PaneKeepsWeather" "PaneKeepsWeather" "textMany" "I") ∈ lw_all := lw_g (lw_at lw_m4 51 rfl) rfl
theorem q872 : (Jvm.Cond.soleField "PaneKeepsWeather" "textMany") ∈ lw_all := lw_g (lw_at lw_m4 52 rfl) rfl
theorem q873 : (Jvm.Cond.laysFinal "PaneKeepsWeather" "PaneKeepsWeather" "keys" "[Ljava/lang/String;") ∈ lw_all := lw_g (lw_at lw_m4 53 rfl) rfl
theorem q874 : (Jvm.Cond.soleField "PaneKeepsWeather" "keys") ∈ lw_all := lw_g (lw_at lw_m4 54 rfl) rfl
theorem q875 : (Jvm.Cond.laysFinal "PaneKeepsWeather" "PaneKeepsWeather" "names" "[Ljava/lang/String;") ∈ lw_all := lw_g (lw_at lw_m4 55 rfl) rfl
theorem q876 : (Jvm.Cond.soleField "PaneKeepsWeather" "names") ∈ lw_all := lw_g (lw_at lw_m4 56 rfl) rfl
theorem q877 : (Jvm.Cond.laysFinal "PaneKeepsWeather" "PaneKeepsWeather" "tape" "[B") ∈ lw_all := lw_g (lw_at lw_m4 57 rfl) rfl
theorem q878 : (Jvm.Cond.soleField "PaneKeepsWeather" "tape") ∈ lw_all := lw_g (lw_at lw_m4 58 rfl) rfl
theorem q879 : (Jvm.Cond.lays "PaneKeepsWeather" "PaneKeepsWeather" "taped" "I") ∈ lw_all := lw_g (lw_at lw_m4 59 rfl) rfl
theorem q880 : (Jvm.Cond.soleField "PaneKeepsWeather" "taped") ∈ lw_all := lw_g (lw_at lw_m4 60 rfl) rfl
theorem q881 : (Jvm.Cond.lays "PaneKeepsWeather" "PaneKeepsWeather" "length" "I") ∈ lw_all := lw_g (lw_at lw_m4 61 rfl) rfl
theorem q882 : (Jvm.Cond.soleField "PaneKeepsWeather" "length") ∈ lw_all := lw_g (lw_at lw_m4 62 rfl) rfl
theorem q883 : (Jvm.Cond.lays "PaneKeepsWeather" "PaneKeepsWeather" "at" "I") ∈ lw_all := lw_g (lw_at lw_m4 63 rfl) rfl
theorem q884 : (Jvm.Cond.soleField "PaneKeepsWeather" "at") ∈ lw_all := lw_g (lw_at lw_m4 64 rfl) rfl
theorem q885 : (Jvm.Cond.lays "PaneKeepsWeather" "PaneKeepsWeather" "begin" "I") ∈ lw_all := lw_g (lw_at lw_m4 65 rfl) rfl
theorem q886 : (Jvm.Cond.soleField "PaneKeepsWeather" "begin") ∈ lw_all := lw_g (lw_at lw_m4 66 rfl) rfl
theorem q887 : (Jvm.Cond.lays "PaneKeepsWeather" "PaneKeepsWeather" "token" "I") ∈ lw_all := lw_g (lw_at lw_m4 67 rfl) rfl
theorem q888 : (Jvm.Cond.soleField "PaneKeepsWeather" "token") ∈ lw_all := lw_g (lw_at lw_m4 68 rfl) rfl
theorem q889 : (Jvm.Cond.lays "PaneKeepsWeather" "PaneKeepsWeather" "value" "I") ∈ lw_all := lw_g (lw_at lw_m4 69 rfl) rfl
theorem q890 : (Jvm.Cond.soleField "PaneKeepsWeather" "value") ∈ lw_all := lw_g (lw_at lw_m4 70 rfl) rfl
theorem q891 : (Jvm.Cond.lays "PaneKeepsWeather" "PaneKeepsWeather" "opens" "I") ∈ lw_all := lw_g (lw_at lw_m4 71 rfl) rfl
theorem q892 : (Jvm.Cond.soleField "PaneKeepsWeather" "opens") ∈ lw_all := lw_g (lw_at lw_m4 72 rfl) rfl
theorem q893 : (Jvm.Cond.lays "PaneKeepsWeather" "PaneKeepsWeather" "rule" "I") ∈ lw_all := lw_g (lw_at lw_m4 73 rfl) rfl
theorem q894 : (Jvm.Cond.soleField "PaneKeepsWeather" "rule") ∈ lw_all := lw_g (lw_at lw_m4 74 rfl) rfl
theorem q895 : (Jvm.Cond.laysFinal "PaneKeepsWeather" "PaneKeepsWeather" "sums" "[[I") ∈ lw_all := lw_g (lw_at lw_m4 75 rfl) rfl
theorem q896 : (Jvm.Cond.soleField "PaneKeepsWeather" "sums") ∈ lw_all := lw_g (lw_at lw_m4 76 rfl) rfl
theorem q897 : (Jvm.Cond.laysFinal "PaneKeepsWeather" "PaneKeepsWeather" "prices" "[I") ∈ lw_all := lw_g (lw_at lw_m4 77 rfl) rfl
theorem q898 : (Jvm.Cond.soleField "PaneKeepsWeather" "prices") ∈ lw_all := lw_g (lw_at lw_m4 78 rfl) rfl
theorem q899 : (Jvm.Cond.laysFinal "PaneKeepsWeather" "PaneKeepsWeather" "quarrel" "[[[Z") ∈ lw_all := lw_g (lw_at lw_m4 79 rfl) rfl
theorem q900 : (Jvm.Cond.soleField "PaneKeepsWeather" "quarrel") ∈ lw_all := lw_g (lw_at lw_m4 80 rfl) rfl
theorem q901 : (Jvm.Cond.lays "PaneKeepsWeather" "PaneKeepsWeather" "goal" "I") ∈ lw_all := lw_g (lw_at lw_m4 81 rfl) rfl
theorem q902 : (Jvm.Cond.soleField "PaneKeepsWeather" "goal") ∈ lw_all := lw_g (lw_at lw_m4 82 rfl) rfl
theorem q903 : (Jvm.Cond.lays "PaneKeepsWeather" "PaneKeepsWeather" "hasBest" "Z") ∈ lw_all := lw_g (lw_at lw_m4 83 rfl) rfl
theorem q904 : (Jvm.Cond.soleField "PaneKeepsWeather" "hasBest") ∈ lw_all := lw_g (lw_at lw_m4 84 rfl) rfl
theorem q905 : (Jvm.Cond.lays "PaneKeepsWeather" "PaneKeepsWeather" "bestValue" "I") ∈ lw_all := lw_g (lw_at lw_m4 85 rfl) rfl
theorem q906 : (Jvm.Cond.soleField "PaneKeepsWeather" "bestValue") ∈ lw_all := lw_g (lw_at lw_m4 86 rfl) rfl
theorem q907 : (Jvm.Cond.lays "PaneKeepsWeather" "PaneKeepsWeather" "bestDigits" "I") ∈ lw_all := lw_g (lw_at lw_m4 87 rfl) rfl
theorem q908 : (Jvm.Cond.soleField "PaneKeepsWeather" "bestDigits") ∈ lw_all := lw_g (lw_at lw_m4 88 rfl) rfl
theorem q909 : (Jvm.Cond.laysFinal "PaneKeepsWeather" "PaneKeepsWeather" "keptDays" "[I") ∈ lw_all := lw_g (lw_at lw_m4 89 rfl) rfl
theorem q910 : (Jvm.Cond.soleField "PaneKeepsWeather" "keptDays") ∈ lw_all := lw_g (lw_at lw_m4 90 rfl) rfl
theorem q911 : (Jvm.Cond.lays "PaneKeepsWeather" "PaneKeepsWeather" "hasImage" "Z") ∈ lw_all := lw_g (lw_at lw_m4 91 rfl) rfl
theorem q912 : (Jvm.Cond.soleField "PaneKeepsWeather" "hasImage") ∈ lw_all := lw_g (lw_at lw_m4 92 rfl) rfl
theorem q913 : (Jvm.Cond.laysFinal "PaneKeepsWeather" "PaneKeepsWeather" "imageWants" "[I") ∈ lw_all := lw_g (lw_at lw_m4 93 rfl) rfl
theorem q914 : (Jvm.Cond.soleField "PaneKeepsWeather" "imageWants") ∈ lw_all := lw_g (lw_at lw_m4 94 rfl) rfl
theorem q915 : (Jvm.Cond.laysFinal "PaneKeepsWeather" "PaneKeepsWeather" "imagePanes" "[[I") ∈ lw_all := lw_g (lw_at lw_m4 95 rfl) rfl
theorem q916 : (Jvm.Cond.soleField "PaneKeepsWeather" "imagePanes") ∈ lw_all := lw_g (lw_at lw_m4 96 rfl) rfl
theorem q917 : (Jvm.Cond.laysFinal "PaneKeepsWeather" "PaneKeepsWeather" "imageNumbers" "[I") ∈ lw_all := lw_g (lw_at lw_m4 97 rfl) rfl
theorem q918 : (Jvm.Cond.soleField "PaneKeepsWeather" "imageNumbers") ∈ lw_all := lw_g (lw_at lw_m4 98 rfl) rfl
theorem q919 : (Jvm.Cond.laysFinal "PaneKeepsWeather" "PaneKeepsWeather" "sheets" "[LPaneKeepsWeather$Sheet;") ∈ lw_all := lw_g (lw_at lw_m4 99 rfl) rfl
theorem q920 : (Jvm.Cond.soleField "PaneKeepsWeather" "sheets") ∈ lw_all := lw_g (lw_at lw_m4 100 rfl) rfl
theorem q921 : (Jvm.Cond.superclass "PaneKeepsWeather" "java/lang/Object") ∈ lw_all := lw_g (lw_at lw_m4 101 rfl) rfl
theorem q923 : (Jvm.Cond.instanceMethod ({ cls := "PaneKeepsWeather", name := "force", desc := "(I)I" } : Jvm.MethodName)) ∈ lw_all := lw_g (lw_at lw_m4 103 rfl) rfl
theorem q924 : (Jvm.Cond.selects "PaneKeepsWeather" ({ cls := "PaneKeepsWeather", name := "force", desc := "(I)I" } : Jvm.MethodName) ({ cls := "PaneKeepsWeather", name := "force", desc := "(I)I" } : Jvm.MethodName)) ∈ lw_all := lw_g (lw_at lw_m4 104 rfl) rfl
theorem q925 : (Jvm.Cond.code ({ cls := "PaneKeepsWeather", name := "force", desc := "(I)I" } : Jvm.MethodName) prog_1_method_39_code (3 : Nat) (Option.some Jvm.ClassFile.FieldType.int)) ∈ lw_all := lw_g (lw_at lw_m4 105 rfl) rfl
theorem q926 : (Jvm.Cond.methodLink "PaneKeepsWeather" (342 : Nat) ({ cls := "PaneKeepsWeather", name := "isText", desc := "(I)Z" } : Jvm.MethodName)) ∈ lw_all := lw_g (lw_at lw_m4 106 rfl) rfl
theorem q927 : (Jvm.Cond.privateMethod ({ cls := "PaneKeepsWeather", name := "isText", desc := "(I)Z" } : Jvm.MethodName)) ∈ lw_tbl := lw_at lw_m4 107 rfl
theorem q928 : (Jvm.Cond.instanceMethod ({ cls := "PaneKeepsWeather", name := "isText", desc := "(I)Z" } : Jvm.MethodName)) ∈ lw_all := lw_g (lw_at lw_m4 108 rfl) rfl
theorem q929 : (Jvm.Cond.code ({ cls := "PaneKeepsWeather", name := "isText", desc := "(I)Z" } : Jvm.MethodName) prog_1_method_37_code (2 : Nat) (Option.some Jvm.ClassFile.FieldType.boolean)) ∈ lw_all := lw_g (lw_at lw_m4 109 rfl) rfl
theorem q931 : (Jvm.Cond.instanceMethod ({ cls := "PaneKeepsWeather", name := "light", desc := "(III)I" } : Jvm.MethodName)) ∈ lw_all := lw_g (lw_at lw_m4 111 rfl) rfl
theorem q932 : (Jvm.Cond.selects "PaneKeepsWeather" ({ cls := "PaneKeepsWeather", name := "light", desc := "(III)I" } : Jvm.MethodName) ({ cls := "PaneKeepsWeather", name := "light", desc := "(III)I" } : Jvm.MethodName)) ∈ lw_all := lw_g (lw_at lw_m4 112 rfl) rfl
theorem q933 : (Jvm.Cond.code ({ cls := "PaneKeepsWeather", name := "light", desc := "(III)I" } : Jvm.MethodName) prog_1_method_44_code (4 : Nat) (Option.some Jvm.ClassFile.FieldType.int)) ∈ lw_all := lw_g (lw_at lw_m4 113 rfl) rfl
theorem q934 : (Jvm.Cond.constantLong "PaneKeepsWeather" (375 : Nat) (4 : Int64)) ∈ lw_all := lw_g (lw_at lw_m4 114 rfl) rfl
theorem q935 : (Jvm.Cond.constantLong "PaneKeepsWeather" (377 : Nat) (7 : Int64)) ∈ lw_all := lw_g (lw_at lw_m4 115 rfl) rfl
theorem q937 : (Jvm.Cond.instanceMethod ({ cls := "PaneKeepsWeather", name := "house", desc := "(I)I" } : Jvm.MethodName)) ∈ lw_all := lw_g (lw_at lw_m4 117 rfl) rfl
theorem q938 : (Jvm.Cond.selects "PaneKeepsWeather" ({ cls := "PaneKeepsWeather", name := "house", desc := "(I)I" } : Jvm.MethodName) ({ cls := "PaneKeepsWeather", name := "house", desc := "(I)I" } : Jvm.MethodName)) ∈ lw_all := lw_g (lw_at lw_m4 118 rfl) rfl
theorem q939 : (Jvm.Cond.code ({ cls := "PaneKeepsWeather", name := "house", desc := "(I)I" } : Jvm.MethodName) prog_1_method_52_code (2 : Nat) (Option.some Jvm.ClassFile.FieldType.int)) ∈ lw_all := lw_g (lw_at lw_m4 119 rfl) rfl
theorem q940 : (Jvm.Cond.methodLink "PaneKeepsWeather" (389 : Nat) ({ cls := "PaneKeepsWeather", name := "bright", desc := "()I" } : Jvm.MethodName)) ∈ lw_all := lw_g (lw_at lw_m4 120 rfl) rfl
theorem q941 : (Jvm.Cond.privateMethod ({ cls := "PaneKeepsWeather", name := "bright", desc := "()I" } : Jvm.MethodName)) ∈ lw_tbl := lw_at lw_m4 121 rfl
theorem q942 : (Jvm.Cond.instanceMethod ({ cls := "PaneKeepsWeather", name := "bright", desc := "()I" } : Jvm.MethodName)) ∈ lw_all := lw_g (lw_at lw_m4 122 rfl) rfl
theorem q943 : (Jvm.Cond.code ({ cls := "PaneKeepsWeather", name := "bright", desc := "()I" } : Jvm.MethodName) prog_1_method_47_code (3 : Nat) (Option.some Jvm.ClassFile.FieldType.int)) ∈ lw_all := lw_g (lw_at lw_m4 123 rfl) rfl
theorem q944 : (Jvm.Cond.methodLink "PaneKeepsWeather" (392 : Nat) ({ cls := "PaneKeepsWeather", name := "price", desc := "()I" } : Jvm.MethodName)) ∈ lw_all := lw_g (lw_at lw_m4 124 rfl) rfl
theorem q945 : (Jvm.Cond.privateMethod ({ cls := "PaneKeepsWeather", name := "price", desc := "()I" } : Jvm.MethodName)) ∈ lw_tbl := lw_at lw_m4 125 rfl
theorem q946 : (Jvm.Cond.instanceMethod ({ cls := "PaneKeepsWeather", name := "price", desc := "()I" } : Jvm.MethodName)) ∈ lw_all := lw_g (lw_at lw_m4 126 rfl) rfl
theorem q947 : (Jvm.Cond.code ({ cls := "PaneKeepsWeather", name := "price", desc := "()I" } : Jvm.MethodName) prog_1_method_48_code (3 : Nat) (Option.some Jvm.ClassFile.FieldType.int)) ∈ lw_all := lw_g (lw_at lw_m4 127 rfl) rfl
theorem q948 : (Jvm.Cond.methodLink "PaneKeepsWeather" (395 : Nat) ({ cls := "PaneKeepsWeather", name := "quarrelSet", desc := "()I" } : Jvm.MethodName)) ∈ lw_all := lw_g (lw_at lw_m4 128 rfl) rfl
theorem q949 : (Jvm.Cond.privateMethod ({ cls := "PaneKeepsWeather", name := "quarrelSet", desc := "()I" } : Jvm.MethodName)) ∈ lw_tbl := lw_at lw_m4 129 rfl
theorem q950 : (Jvm.Cond.instanceMethod ({ cls := "PaneKeepsWeather", name := "quarrelSet", desc := "()I" } : Jvm.MethodName)) ∈ lw_all := lw_g (lw_at lw_m4 130 rfl) rfl
theorem q951 : (Jvm.Cond.code ({ cls := "PaneKeepsWeather", name := "quarrelSet", desc := "()I" } : Jvm.MethodName) prog_1_method_49_code (5 : Nat) (Option.some Jvm.ClassFile.FieldType.int)) ∈ lw_all := lw_g (lw_at lw_m4 131 rfl) rfl
theorem q952 : (Jvm.Cond.methodLink "PaneKeepsWeather" (386 : Nat) ({ cls := "PaneKeepsWeather", name := "doQuarrel", desc := "(III)Z" } : Jvm.MethodName)) ∈ lw_all := lw_g (lw_at lw_m4 132 rfl) rfl
theorem q953 : (Jvm.Cond.privateMethod ({ cls := "PaneKeepsWeather", name := "doQuarrel", desc := "(III)Z" } : Jvm.MethodName)) ∈ lw_tbl := lw_at lw_m4 133 rfl
theorem q954 : (Jvm.Cond.instanceMethod ({ cls := "PaneKeepsWeather", name := "doQuarrel", desc := "(III)Z" } : Jvm.MethodName)) ∈ lw_all := lw_g (lw_at lw_m4 134 rfl) rfl
theorem q955 : (Jvm.Cond.code ({ cls := "PaneKeepsWeather", name := "doQuarrel", desc := "(III)Z" } : Jvm.MethodName) prog_1_method_43_code (4 : Nat) (Option.some Jvm.ClassFile.FieldType.boolean)) ∈ lw_all := lw_g (lw_at lw_m4 135 rfl) rfl
theorem q956 : (Jvm.Cond.methodLink "PaneKeepsWeather" (398 : Nat) ({ cls := "PaneKeepsWeather", name := "isMet", desc := "()Z" } : Jvm.MethodName)) ∈ lw_all := lw_g (lw_at lw_m4 136 rfl) rfl
theorem q957 : (Jvm.Cond.privateMethod ({ cls := "PaneKeepsWeather", name := "isMet", desc := "()Z" } : Jvm.MethodName)) ∈ lw_tbl := lw_at lw_m4 137 rfl
theorem q958 : (Jvm.Cond.instanceMethod ({ cls := "PaneKeepsWeather", name := "isMet", desc := "()Z" } : Jvm.MethodName)) ∈ lw_all := lw_g (lw_at lw_m4 138 rfl) rfl
theorem q959 : (Jvm.Cond.code ({ cls := "PaneKeepsWeather", name := "isMet", desc := "()Z" } : Jvm.MethodName) prog_1_method_50_code (2 : Nat) (Option.some Jvm.ClassFile.FieldType.boolean)) ∈ lw_all := lw_g (lw_at lw_m4 139 rfl) rfl
theorem q960 : (Jvm.Cond.methodLink "PaneKeepsWeather" (402 : Nat) ({ cls := "PaneKeepsWeather", name := "spiltAll", desc := "()I" } : Jvm.MethodName)) ∈ lw_all := lw_g (lw_at lw_m4 140 rfl) rfl
theorem q961 : (Jvm.Cond.privateMethod ({ cls := "PaneKeepsWeather", name := "spiltAll", desc := "()I" } : Jvm.MethodName)) ∈ lw_tbl := lw_at lw_m4 141 rfl
theorem q962 : (Jvm.Cond.instanceMethod ({ cls := "PaneKeepsWeather", name := "spiltAll", desc := "()I" } : Jvm.MethodName)) ∈ lw_all := lw_g (lw_at lw_m4 142 rfl) rfl
theorem q963 : (Jvm.Cond.code ({ cls := "PaneKeepsWeather", name := "spiltAll", desc := "()I" } : Jvm.MethodName) prog_1_method_51_code (3 : Nat) (Option.some Jvm.ClassFile.FieldType.int)) ∈ lw_all := lw_g (lw_at lw_m4 143 rfl) rfl
theorem q965 : (Jvm.Cond.instanceMethod ({ cls := "PaneKeepsWeather", name := "half", desc := "(I)I" } : Jvm.MethodName)) ∈ lw_all := lw_g (lw_at lw_m4 145 rfl) rfl
theorem q966 : (Jvm.Cond.selects "PaneKeepsWeather" ({ cls := "PaneKeepsWeather", name := "half", desc := "(I)I" } : Jvm.MethodName) ({ cls := "PaneKeepsWeather", name := "half", desc := "(I)I" } : Jvm.MethodName)) ∈ lw_all := lw_g (lw_at lw_m4 146 rfl) rfl
theorem q967 : (Jvm.Cond.code ({ cls := "PaneKeepsWeather", name := "half", desc := "(I)I" } : Jvm.MethodName) prog_1_method_53_code (6 : Nat) (Option.some Jvm.ClassFile.FieldType.int)) ∈ lw_all := lw_g (lw_at lw_m4 147 rfl) rfl
theorem q969 : (Jvm.Cond.instanceMethod ({ cls := "PaneKeepsWeather", name := "brightest", desc := "(I)I" } : Jvm.MethodName)) ∈ lw_all := lw_g (lw_at lw_m4 149 rfl) rfl
theorem q970 : (Jvm.Cond.selects "PaneKeepsWeather" ({ cls := "PaneKeepsWeather", name := "brightest", desc := "(I)I" } : Jvm.MethodName) ({ cls := "PaneKeepsWeather", name := "brightest", desc := "(I)I" } : Jvm.MethodName)) ∈ lw_all := lw_g (lw_at lw_m4 150 rfl) rfl
theorem q971 : (Jvm.Cond.code ({ cls := "PaneKeepsWeather", name := "brightest", desc := "(I)I" } : Jvm.MethodName) prog_1_method_59_code (2 : Nat) (Option.some Jvm.ClassFile.FieldType.int)) ∈ lw_all := lw_g (lw_at lw_m4 151 rfl) rfl
theorem q972 : (Jvm.Cond.methodLink "PaneKeepsWeather" (431 : Nat) ({ cls := "PaneKeepsWeather", name := "goesThrough", desc := "(I)V" } : Jvm.MethodName)) ∈ lw_all := lw_g (lw_at lw_m4 152 rfl) rfl
theorem q973 : (Jvm.Cond.privateMethod ({ cls := "PaneKeepsWeather", name := "goesThrough", desc := "(I)V" } : Jvm.MethodName)) ∈ lw_tbl := lw_at lw_m4 153 rfl
theorem q974 : (Jvm.Cond.instanceMethod ({ cls := "PaneKeepsWeather", name := "goesThrough", desc := "(I)V" } : Jvm.MethodName)) ∈ lw_all := lw_g (lw_at lw_m4 154 rfl) rfl
theorem q975 : (Jvm.Cond.code ({ cls := "PaneKeepsWeather", name := "goesThrough", desc := "(I)V" } : Jvm.MethodName) prog_1_method_58_code (2 : Nat) (Option.none : Option Jvm.ClassFile.FieldType)) ∈ lw_all := lw_g (lw_at lw_m4 155 rfl) rfl
theorem q976 : (Jvm.Cond.methodLink "PaneKeepsWeather" (428 : Nat) ({ cls := "PaneKeepsWeather", name := "tellsAll", desc := "()V" } : Jvm.MethodName)) ∈ lw_all := lw_g (lw_at lw_m4 156 rfl) rfl
theorem q977 : (Jvm.Cond.privateMethod ({ cls := "PaneKeepsWeather", name := "tellsAll", desc := "()V" } : Jvm.MethodName)) ∈ lw_tbl := lw_at lw_m4 157 rfl
theorem q978 : (Jvm.Cond.instanceMethod ({ cls := "PaneKeepsWeather", name := "tellsAll", desc := "()V" } : Jvm.MethodName)) ∈ lw_all := lw_g (lw_at lw_m4 158 rfl) rfl
theorem q979 : (Jvm.Cond.code ({ cls := "PaneKeepsWeather", name := "tellsAll", desc := "()V" } : Jvm.MethodName) prog_1_method_54_code (4 : Nat) (Option.none : Option Jvm.ClassFile.FieldType)) ∈ lw_all := lw_g (lw_at lw_m4 159 rfl) rfl
theorem q980 : (Jvm.Cond.methodLink "PaneKeepsWeather" (424 : Nat) ({ cls := "PaneKeepsWeather", name := "tries", desc := "(IIIIII)V" } : Jvm.MethodName)) ∈ lw_all := lw_g (lw_at lw_m4 160 rfl) rfl
theorem q981 : (Jvm.Cond.privateMethod ({ cls := "PaneKeepsWeather", name := "tries", desc := "(IIIIII)V" } : Jvm.MethodName)) ∈ lw_tbl := lw_at lw_m4 161 rfl
theorem q982 : (Jvm.Cond.instanceMethod ({ cls := "PaneKeepsWeather", name := "tries", desc := "(IIIIII)V" } : Jvm.MethodName)) ∈ lw_all := lw_g (lw_at lw_m4 162 rfl) rfl
theorem q983 : (Jvm.Cond.code ({ cls := "PaneKeepsWeather", name := "tries", desc := "(IIIIII)V" } : Jvm.MethodName) prog_1_method_57_code (9 : Nat) (Option.none : Option Jvm.ClassFile.FieldType)) ∈ lw_all := lw_g (lw_at lw_m4 163 rfl) rfl
theorem q984 : (Jvm.Cond.methodLink "PaneKeepsWeather" (417 : Nat) ({ cls := "PaneKeepsWeather", name := "looks", desc := "(II)V" } : Jvm.MethodName)) ∈ lw_all := lw_g (lw_at lw_m4 164 rfl) rfl
theorem q985 : (Jvm.Cond.privateMethod ({ cls := "PaneKeepsWeather", name := "looks", desc := "(II)V" } : Jvm.MethodName)) ∈ lw_tbl := lw_at lw_m4 165 rfl
theorem q986 : (Jvm.Cond.instanceMethod ({ cls := "PaneKeepsWeather", name := "looks", desc := "(II)V" } : Jvm.MethodName)) ∈ lw_all := lw_g (lw_at lw_m4 166 rfl) rfl
theorem q987 : (Jvm.Cond.code ({ cls := "PaneKeepsWeather", name := "looks", desc := "(II)V" } : Jvm.MethodName) prog_1_method_55_code (3 : Nat) (Option.none : Option Jvm.ClassFile.FieldType)) ∈ lw_all := lw_g (lw_at lw_m4 167 rfl) rfl
theorem q988 : (Jvm.Cond.methodLink "PaneKeepsWeather" (420 : Nat) ({ cls := "PaneKeepsWeather", name := "isEnough", desc := "(II)Z" } : Jvm.MethodName)) ∈ lw_all := lw_g (lw_at lw_m4 168 rfl) rfl
theorem q989 : (Jvm.Cond.privateMethod ({ cls := "PaneKeepsWeather", name := "isEnough", desc := "(II)Z" } : Jvm.MethodName)) ∈ lw_tbl := lw_at lw_m4 169 rfl
theorem q990 : (Jvm.Cond.instanceMethod ({ cls := "PaneKeepsWeather", name := "isEnough", desc := "(II)Z" } : Jvm.MethodName)) ∈ lw_all := lw_g (lw_at lw_m4 170 rfl) rfl
theorem q991 : (Jvm.Cond.code ({ cls := "PaneKeepsWeather", name := "isEnough", desc := "(II)Z" } : Jvm.MethodName) prog_1_method_56_code (3 : Nat) (Option.some Jvm.ClassFile.FieldType.boolean)) ∈ lw_all := lw_g (lw_at lw_m4 171 rfl) rfl
theorem q993 : (Jvm.Cond.instanceMethod ({ cls := "PaneKeepsWeather", name := "cheapest", desc := "(I)I" } : Jvm.MethodName)) ∈ lw_all := lw_g (lw_at lw_m4 173 rfl) rfl
theorem q994 : (Jvm.Cond.selects "PaneKeepsWeather" ({ cls := "PaneKeepsWeather", name := "cheapest", desc := "(I)I" } : Jvm.MethodName) ({ cls := "PaneKeepsWeather", name := "cheapest", desc := "(I)I" } : Jvm.MethodName)) ∈ lw_all := lw_g (lw_at lw_m4 174 rfl) rfl
theorem q995 : (Jvm.Cond.code ({ cls := "PaneKeepsWeather", name := "cheapest", desc := "(I)I" } : Jvm.MethodName) prog_1_method_60_code (2 : Nat) (Option.some Jvm.ClassFile.FieldType.int)) ∈ lw_all := lw_g (lw_at lw_m4 175 rfl) rfl
theorem q997 : (Jvm.Cond.instanceMethod ({ cls := "PaneKeepsWeather", name := "settle", desc := "()I" } : Jvm.MethodName)) ∈ lw_all := lw_g (lw_at lw_m4 177 rfl) rfl
theorem q998 : (Jvm.Cond.selects "PaneKeepsWeather" ({ cls := "PaneKeepsWeather", name := "settle", desc := "()I" } : Jvm.MethodName) ({ cls := "PaneKeepsWeather", name := "settle", desc := "()I" } : Jvm.MethodName)) ∈ lw_all := lw_g (lw_at lw_m4 178 rfl) rfl
theorem q999 : (Jvm.Cond.code ({ cls := "PaneKeepsWeather", name := "settle", desc := "()I" } : Jvm.MethodName) prog_1_method_61_code (3 : Nat) (Option.some Jvm.ClassFile.FieldType.int)) ∈ lw_all := lw_g (lw_at lw_m4 179 rfl) rfl
theorem q1001 : (Jvm.Cond.instanceMethod ({ cls := "PaneKeepsWeather", name := "turnOut", desc := "(I)I" } : Jvm.MethodName)) ∈ lw_all := lw_g (lw_at lw_m4 181 rfl) rfl
theorem q1002 : (Jvm.Cond.selects "PaneKeepsWeather" ({ cls := "PaneKeepsWeather", name := "turnOut", desc := "(I)I" } : Jvm.MethodName) ({ cls := "PaneKeepsWeather", name := "turnOut", desc := "(I)I" } : Jvm.MethodName)) ∈ lw_all := lw_g (lw_at lw_m4 182 rfl) rfl
theorem q1003 : (Jvm.Cond.code ({ cls := "PaneKeepsWeather", name := "turnOut", desc := "(I)I" } : Jvm.MethodName) prog_1_method_63_code (7 : Nat) (Option.some Jvm.ClassFile.FieldType.int)) ∈ lw_all := lw_g (lw_at lw_m4 183 rfl) rfl
theorem q1004 : (Jvm.Cond.methodLink "PaneKeepsWeather" (434 : Nat) ({ cls := "java/lang/Integer", name := "bitCount", desc := "(I)I" } : Jvm.MethodName)) ∈ lw_all := lw_g (lw_at lw_m4 184 rfl) rfl
theorem q1010 : (Jvm.Cond.methodLink "PaneKeepsWeather" (439 : Nat) ({ cls := "PaneKeepsWeather", name := "quarrelsWithout", desc := "(I)I" } : Jvm.MethodName)) ∈ lw_all := lw_g (lw_at lw_m4 190 rfl) rfl
theorem q1011 : (Jvm.Cond.privateMethod ({ cls := "PaneKeepsWeather", name := "quarrelsWithout", desc := "(I)I" } : Jvm.MethodName)) ∈ lw_tbl := lw_at lw_m4 191 rfl
theorem q1012 : (Jvm.Cond.instanceMethod ({ cls := "PaneKeepsWeather", name := "quarrelsWithout", desc := "(I)I" } : Jvm.MethodName)) ∈ lw_all := lw_g (lw_at lw_m4 192 rfl) rfl
theorem q1013 : (Jvm.Cond.codeWith ({ cls := "PaneKeepsWeather", name := "quarrelsWithout", desc := "(I)I" } : Jvm.MethodName) prog_1_method_62_code (5 : Nat) (Option.some Jvm.ClassFile.FieldType.int) [((10 : Nat), (28 : Nat), (40 : Nat), (0 : Nat)), ((40 : Nat), (42 : Nat), (40 : Nat), (0 : Nat))]) ∈ lw_all := lw_g (lw_at lw_m4 193 rfl) rfl
theorem q1015 : (Jvm.Cond.instanceMethod ({ cls := "PaneKeepsWeather", name := "swap", desc := "(I)I" } : Jvm.MethodName)) ∈ lw_all := lw_g (lw_at lw_m4 195 rfl) rfl
theorem q1016 : (Jvm.Cond.selects "PaneKeepsWeather" ({ cls := "PaneKeepsWeather", name := "swap", desc := "(I)I" } : Jvm.MethodName) ({ cls := "PaneKeepsWeather", name := "swap", desc := "(I)I" } : Jvm.MethodName)) ∈ lw_all := lw_g (lw_at lw_m4 196 rfl) rfl
theorem q1017 : (Jvm.Cond.code ({ cls := "PaneKeepsWeather", name := "swap", desc := "(I)I" } : Jvm.MethodName) prog_1_method_66_code (7 : Nat) (Option.some Jvm.ClassFile.FieldType.int)) ∈ lw_all := lw_g (lw_at lw_m4 197 rfl) rfl
theorem q1018 : (Jvm.Cond.methodLink "PaneKeepsWeather" (445 : Nat) ({ cls := "PaneKeepsWeather", name := "brightChanged", desc := "(II)I" } : Jvm.MethodName)) ∈ lw_all := lw_g (lw_at lw_m4 198 rfl) rfl
theorem q1019 : (Jvm.Cond.privateMethod ({ cls := "PaneKeepsWeather", name := "brightChanged", desc := "(II)I" } : Jvm.MethodName)) ∈ lw_tbl := lw_at lw_m4 199 rfl
theorem q1020 : (Jvm.Cond.instanceMethod ({ cls := "PaneKeepsWeather", name := "brightChanged", desc := "(II)I" } : Jvm.MethodName)) ∈ lw_all := lw_g (lw_at lw_m4 200 rfl) rfl
theorem q1021 : (Jvm.Cond.codeWith ({ cls := "PaneKeepsWeather", name := "brightChanged", desc := "(II)I" } : Jvm.MethodName) prog_1_method_65_code (5 : Nat) (Option.some Jvm.ClassFile.FieldType.int) [((6 : Nat), (22 : Nat), (30 : Nat), (0 : Nat)), ((30 : Nat), (32 : Nat), (30 : Nat), (0 : Nat))]) ∈ lw_all := lw_g (lw_at lw_m4 201 rfl) rfl
theorem q1022 : (Jvm.Cond.methodLink "PaneKeepsWeather" (442 : Nat) ({ cls := "PaneKeepsWeather", name := "changes", desc := "(II)V" } : Jvm.MethodName)) ∈ lw_all := lw_g (lw_at lw_m4 202 rfl) rfl
theorem q1023 : (Jvm.Cond.privateMethod ({ cls := "PaneKeepsWeather", name := "changes", desc := "(II)V" } : Jvm.MethodName)) ∈ lw_tbl := lw_at lw_m4 203 rfl
theorem q1024 : (Jvm.Cond.instanceMethod ({ cls := "PaneKeepsWeather", name := "changes", desc := "(II)V" } : Jvm.MethodName)) ∈ lw_all := lw_g (lw_at lw_m4 204 rfl) rfl
theorem q1025 : (Jvm.Cond.code ({ cls := "PaneKeepsWeather", name := "changes", desc := "(II)V" } : Jvm.MethodName) prog_1_method_64_code (5 : Nat) (Option.none : Option Jvm.ClassFile.FieldType)) ∈ lw_all := lw_g (lw_at lw_m4 205 rfl) rfl
theorem q1027 : (Jvm.Cond.instanceMethod ({ cls := "PaneKeepsWeather", name := "tells", desc := "(III)I" } : Jvm.MethodName)) ∈ lw_all := lw_g (lw_at lw_m4 207 rfl) rfl
theorem q1028 : (Jvm.Cond.selects "PaneKeepsWeather" ({ cls := "PaneKeepsWeather", name := "tells", desc := "(III)I" } : Jvm.MethodName) ({ cls := "PaneKeepsWeather", name := "tells", desc := "(III)I" } : Jvm.MethodName)) ∈ lw_all := lw_g (lw_at lw_m4 208 rfl) rfl
theorem q1029 : (Jvm.Cond.code ({ cls := "PaneKeepsWeather", name := "tells", desc := "(III)I" } : Jvm.MethodName) prog_1_method_76_code (5 : Nat) (Option.some Jvm.ClassFile.FieldType.int)) ∈ lw_all := lw_g (lw_at lw_m4 209 rfl) rfl
theorem q1030 : (Jvm.Cond.methodLink "PaneKeepsWeather" (485 : Nat) ({ cls := "PaneKeepsWeather", name := "isSheet", desc := "(I)Z" } : Jvm.MethodName)) ∈ lw_all := lw_g (lw_at lw_m4 210 rfl) rfl
theorem q1031 : (Jvm.Cond.static ({ cls := "PaneKeepsWeather", name := "isSheet", desc := "(I)Z" } : Jvm.MethodName)) ∈ lw_all := lw_g (lw_at lw_m4 211 rfl) rfl
theorem q1032 : (Jvm.Cond.code ({ cls := "PaneKeepsWeather", name := "isSheet", desc := "(I)Z" } : Jvm.MethodName) prog_1_method_88_code (1 : Nat) (Option.some Jvm.ClassFile.FieldType.boolean)) ∈ lw_all := lw_g (lw_at lw_m4 212 rfl) rfl
theorem q1033 : (Jvm.Cond.constantLong "PaneKeepsWeather" (488 : Nat) (10 : Int64)) ∈ lw_all := lw_g (lw_at lw_m4 213 rfl) rfl
theorem q1034 : (Jvm.Cond.constantLong "PaneKeepsWeather" (490 : Nat) (79 : Int64)) ∈ lw_all := lw_g (lw_at lw_m4 214 rfl) rfl
theorem q1035 : (Jvm.Cond.methodLink "PaneKeepsWeather" (448 : Nat) ({ cls := "PaneKeepsWeather", name := "sortOf", desc := "(Ljava/lang/Object;)I" } : Jvm.MethodName)) ∈ lw_all := lw_g (lw_at lw_m4 215 rfl) rfl
theorem q1036 : (Jvm.Cond.static ({ cls := "PaneKeepsWeather", name := "sortOf", desc := "(Ljava/lang/Object;)I" } : Jvm.MethodName)) ∈ lw_all := lw_g (lw_at lw_m4 216 rfl) rfl
theorem q1037 : (Jvm.Cond.code ({ cls := "PaneKeepsWeather", name := "sortOf", desc := "(Ljava/lang/Object;)I" } : Jvm.MethodName) prog_1_method_96_code (1 : Nat) (Option.some Jvm.ClassFile.FieldType.int)) ∈ lw_all := lw_g (lw_at lw_m4 217 rfl) rfl
theorem q1038 : (Jvm.Cond.classLink "PaneKeepsWeather" (549 : Nat) "[B") ∈ lw_all := lw_g (lw_at lw_m4 218 rfl) rfl
theorem q1039 : (Jvm.Cond.classLink "PaneKeepsWeather" (553 : Nat) "[S") ∈ lw_all := lw_g (lw_at lw_m4 219 rfl) rfl
theorem q1040 : (Jvm.Cond.methodLink "PaneKeepsWeather" (496 : Nat) ({ cls := "PaneKeepsWeather", name := "lengthOf", desc := "(Ljava/lang/Object;I)I" } : Jvm.MethodName)) ∈ lw_all := lw_g (lw_at lw_m4 220 rfl) rfl
theorem q1041 : (Jvm.Cond.static ({ cls := "PaneKeepsWeather", name := "lengthOf", desc := "(Ljava/lang/Object;I)I" } : Jvm.MethodName)) ∈ lw_all := lw_g (lw_at lw_m4 221 rfl) rfl
theorem q1042 : (Jvm.Cond.code ({ cls := "PaneKeepsWeather", name := "lengthOf", desc := "(Ljava/lang/Object;I)I" } : Jvm.MethodName) prog_1_method_94_code (2 : Nat) (Option.some Jvm.ClassFile.FieldType.int)) ∈ lw_all := lw_g (lw_at lw_m4 222 rfl) rfl
theorem q1043 : (Jvm.Cond.classLink "PaneKeepsWeather" (555 : Nat) "[I") ∈ lw_all := lw_g (lw_at lw_m4 223 rfl) rfl
theorem q1044 : (Jvm.Cond.methodLink "PaneKeepsWeather" (500 : Nat) ({ cls := "PaneKeepsWeather", name := "panesOf", desc := "(Ljava/lang/Object;I)I" } : Jvm.MethodName)) ∈ lw_all := lw_g (lw_at lw_m4 224 rfl) rfl
theorem q1045 : (Jvm.Cond.privateMethod ({ cls := "PaneKeepsWeather", name := "panesOf", desc := "(Ljava/lang/Object;I)I" } : Jvm.MethodName)) ∈ lw_tbl := lw_at lw_m4 225 rfl
theorem q1046 : (Jvm.Cond.instanceMethod ({ cls := "PaneKeepsWeather", name := "panesOf", desc := "(Ljava/lang/Object;I)I" } : Jvm.MethodName)) ∈ lw_all := lw_g (lw_at lw_m4 226 rfl) rfl
theorem q1047 : (Jvm.Cond.code ({ cls := "PaneKeepsWeather", name := "panesOf", desc := "(Ljava/lang/Object;I)I" } : Jvm.MethodName) prog_1_method_68_code (5 : Nat) (Option.some Jvm.ClassFile.FieldType.int)) ∈ lw_all := lw_g (lw_at lw_m4 227 rfl) rfl
theorem q1048 : (Jvm.Cond.methodLink "PaneKeepsWeather" (456 : Nat) ({ cls := "PaneKeepsWeather", name := "otherwise", desc := "(Ljava/lang/Object;II)I" } : Jvm.MethodName)) ∈ lw_all := lw_g (lw_at lw_m4 228 rfl) rfl
theorem q1049 : (Jvm.Cond.privateMethod ({ cls := "PaneKeepsWeather", name := "otherwise", desc := "(Ljava/lang/Object;II)I" } : Jvm.MethodName)) ∈ lw_tbl := lw_at lw_m4 229 rfl
theorem q1050 : (Jvm.Cond.instanceMethod ({ cls := "PaneKeepsWeather", name := "otherwise", desc := "(Ljava/lang/Object;II)I" } : Jvm.MethodName)) ∈ lw_all := lw_g (lw_at lw_m4 230 rfl) rfl
theorem q1051 : (Jvm.Cond.code ({ cls := "PaneKeepsWeather", name := "otherwise", desc := "(Ljava/lang/Object;II)I" } : Jvm.MethodName) prog_1_method_67_code (5 : Nat) (Option.some Jvm.ClassFile.FieldType.int)) ∈ lw_all := lw_g (lw_at lw_m4 231 rfl) rfl
theorem q1052 : (Jvm.Cond.methodLink "PaneKeepsWeather" (452 : Nat) ({ cls := "PaneKeepsWeather", name := "item", desc := "(Ljava/lang/Object;II)I" } : Jvm.MethodName)) ∈ lw_all := lw_g (lw_at lw_m4 232 rfl) rfl
theorem q1053 : (Jvm.Cond.static ({ cls := "PaneKeepsWeather", name := "item", desc := "(Ljava/lang/Object;II)I" } : Jvm.MethodName)) ∈ lw_all := lw_g (lw_at lw_m4 233 rfl) rfl
theorem q1054 : (Jvm.Cond.code ({ cls := "PaneKeepsWeather", name := "item", desc := "(Ljava/lang/Object;II)I" } : Jvm.MethodName) prog_1_method_93_code (3 : Nat) (Option.some Jvm.ClassFile.FieldType.int)) ∈ lw_all := lw_g (lw_at lw_m4 234 rfl) rfl
theorem q1055 : (Jvm.Cond.methodLink "PaneKeepsWeather" (550 : Nat) ({ cls := "PaneKeepsWeather", name := "asksPlace", desc := "(II)V" } : Jvm.MethodName)) ∈ lw_all := lw_g (lw_at lw_m4 235 rfl) rfl
theorem q1056 : (Jvm.Cond.static ({ cls := "PaneKeepsWeather", name := "asksPlace", desc := "(II)V" } : Jvm.MethodName)) ∈ lw_all := lw_g (lw_at lw_m4 236 rfl) rfl
theorem q1057 : (Jvm.Cond.code ({ cls := "PaneKeepsWeather", name := "asksPlace", desc := "(II)V" } : Jvm.MethodName) prog_1_method_95_code (2 : Nat) (Option.none : Option Jvm.ClassFile.FieldType)) ∈ lw_all := lw_g (lw_at lw_m4 237 rfl) rfl
theorem q1058 : (Jvm.Cond.classLink "PaneKeepsWeather" (561 : Nat) "java/lang/IndexOutOfBoundsException") ∈ lw_all := lw_g (lw_at lw_m4 238 rfl) rfl
theorem q1067 : (Jvm.Cond.methodLink "PaneKeepsWeather" (563 : Nat) ({ cls := "java/lang/IndexOutOfBoundsException", name := "<init>", desc := "()V" } : Jvm.MethodName)) ∈ lw_all := lw_g (lw_at lw_m5 7 rfl) rfl
theorem q1079 : (Jvm.Cond.methodLink "PaneKeepsWeather" (503 : Nat) ({ cls := "PaneKeepsWeather", name := "toldOne", desc := "(Ljava/lang/Object;III)I" } : Jvm.MethodName)) ∈ lw_all := lw_g (lw_at lw_m5 19 rfl) rfl
theorem q1080 : (Jvm.Cond.privateMethod ({ cls := "PaneKeepsWeather", name := "toldOne", desc := "(Ljava/lang/Object;III)I" } : Jvm.MethodName)) ∈ lw_tbl := lw_at lw_m5 20 rfl
theorem q1081 : (Jvm.Cond.instanceMethod ({ cls := "PaneKeepsWeather", name := "toldOne", desc := "(Ljava/lang/Object;III)I" } : Jvm.MethodName)) ∈ lw_all := lw_g (lw_at lw_m5 21 rfl) rfl
theorem q1082 : (Jvm.Cond.code ({ cls := "PaneKeepsWeather", name := "toldOne", desc := "(Ljava/lang/Object;III)I" } : Jvm.MethodName) prog_1_method_75_code (5 : Nat) (Option.some Jvm.ClassFile.FieldType.int)) ∈ lw_all := lw_g (lw_at lw_m5 22 rfl) rfl
theorem q1083 : (Jvm.Cond.methodLink "PaneKeepsWeather" (471 : Nat) ({ cls := "PaneKeepsWeather", name := "kindsOf", desc := "(Ljava/lang/Object;II)I" } : Jvm.MethodName)) ∈ lw_all := lw_g (lw_at lw_m5 23 rfl) rfl
theorem q1084 : (Jvm.Cond.privateMethod ({ cls := "PaneKeepsWeather", name := "kindsOf", desc := "(Ljava/lang/Object;II)I" } : Jvm.MethodName)) ∈ lw_tbl := lw_at lw_m5 24 rfl
theorem q1085 : (Jvm.Cond.instanceMethod ({ cls := "PaneKeepsWeather", name := "kindsOf", desc := "(Ljava/lang/Object;II)I" } : Jvm.MethodName)) ∈ lw_all := lw_g (lw_at lw_m5 25 rfl) rfl
theorem q1086 : (Jvm.Cond.code ({ cls := "PaneKeepsWeather", name := "kindsOf", desc := "(Ljava/lang/Object;II)I" } : Jvm.MethodName) prog_1_method_70_code (6 : Nat) (Option.some Jvm.ClassFile.FieldType.int)) ∈ lw_all := lw_g (lw_at lw_m5 26 rfl) rfl
theorem q1087 : (Jvm.Cond.methodLink "PaneKeepsWeather" (463 : Nat) ({ cls := "PaneKeepsWeather", name := "isSoAs", desc := "(Ljava/lang/Object;III)Z" } : Jvm.MethodName)) ∈ lw_all := lw_g (lw_at lw_m5 27 rfl) rfl
theorem q1088 : (Jvm.Cond.privateMethod ({ cls := "PaneKeepsWeather", name := "isSoAs", desc := "(Ljava/lang/Object;III)Z" } : Jvm.MethodName)) ∈ lw_tbl := lw_at lw_m5 28 rfl
theorem q1089 : (Jvm.Cond.instanceMethod ({ cls := "PaneKeepsWeather", name := "isSoAs", desc := "(Ljava/lang/Object;III)Z" } : Jvm.MethodName)) ∈ lw_all := lw_g (lw_at lw_m5 29 rfl) rfl
theorem q1090 : (Jvm.Cond.codeWith ({ cls := "PaneKeepsWeather", name := "isSoAs", desc := "(Ljava/lang/Object;III)Z" } : Jvm.MethodName) prog_1_method_69_code (8 : Nat) (Option.some Jvm.ClassFile.FieldType.boolean) [((8 : Nat), (52 : Nat), (63 : Nat), (0 : Nat)), ((63 : Nat), (65 : Nat), (63 : Nat), (0 : Nat))]) ∈ lw_all := lw_g (lw_at lw_m5 30 rfl) rfl
theorem q1091 : (Jvm.Cond.methodLink "PaneKeepsWeather" (459 : Nat) ({ cls := "PaneKeepsWeather$Pane", name := "like", desc := "(LPaneKeepsWeather$Pane;)LPaneKeepsWeather$Pane;" } : Jvm.MethodName)) ∈ lw_all := lw_g (lw_at lw_m5 31 rfl) rfl
theorem q1101 : (Jvm.Cond.methodLink "PaneKeepsWeather" (474 : Nat) ({ cls := "PaneKeepsWeather", name := "digitsBy", desc := "(Ljava/lang/Object;III)I" } : Jvm.MethodName)) ∈ lw_all := lw_g (lw_at lw_m5 41 rfl) rfl
theorem q1102 : (Jvm.Cond.privateMethod ({ cls := "PaneKeepsWeather", name := "digitsBy", desc := "(Ljava/lang/Object;III)I" } : Jvm.MethodName)) ∈ lw_tbl := lw_at lw_m5 42 rfl
theorem q1103 : (Jvm.Cond.instanceMethod ({ cls := "PaneKeepsWeather", name := "digitsBy", desc := "(Ljava/lang/Object;III)I" } : Jvm.MethodName)) ∈ lw_all := lw_g (lw_at lw_m5 43 rfl) rfl
theorem q1104 : (Jvm.Cond.code ({ cls := "PaneKeepsWeather", name := "digitsBy", desc := "(Ljava/lang/Object;III)I" } : Jvm.MethodName) prog_1_method_72_code (7 : Nat) (Option.some Jvm.ClassFile.FieldType.int)) ∈ lw_all := lw_g (lw_at lw_m5 44 rfl) rfl
theorem q1105 : (Jvm.Cond.methodLink "PaneKeepsWeather" (467 : Nat) ({ cls := "PaneKeepsWeather", name := "isSoBy", desc := "(Ljava/lang/Object;IIII)Z" } : Jvm.MethodName)) ∈ lw_all := lw_g (lw_at lw_m5 45 rfl) rfl
theorem q1106 : (Jvm.Cond.privateMethod ({ cls := "PaneKeepsWeather", name := "isSoBy", desc := "(Ljava/lang/Object;IIII)Z" } : Jvm.MethodName)) ∈ lw_tbl := lw_at lw_m5 46 rfl
theorem q1107 : (Jvm.Cond.instanceMethod ({ cls := "PaneKeepsWeather", name := "isSoBy", desc := "(Ljava/lang/Object;IIII)Z" } : Jvm.MethodName)) ∈ lw_all := lw_g (lw_at lw_m5 47 rfl) rfl
theorem q1108 : (Jvm.Cond.codeWith ({ cls := "PaneKeepsWeather", name := "isSoBy", desc := "(Ljava/lang/Object;IIII)Z" } : Jvm.MethodName) prog_1_method_71_code (9 : Nat) (Option.some Jvm.ClassFile.FieldType.boolean) [((9 : Nat), (36 : Nat), (48 : Nat), (0 : Nat)), ((48 : Nat), (50 : Nat), (48 : Nat), (0 : Nat))]) ∈ lw_all := lw_g (lw_at lw_m5 48 rfl) rfl
theorem q1109 : (Jvm.Cond.methodLink "PaneKeepsWeather" (478 : Nat) ({ cls := "PaneKeepsWeather", name := "daysBy", desc := "(Ljava/lang/Object;IIZ)I" } : Jvm.MethodName)) ∈ lw_all := lw_g (lw_at lw_m5 49 rfl) rfl
theorem q1110 : (Jvm.Cond.privateMethod ({ cls := "PaneKeepsWeather", name := "daysBy", desc := "(Ljava/lang/Object;IIZ)I" } : Jvm.MethodName)) ∈ lw_tbl := lw_at lw_m5 50 rfl
theorem q1111 : (Jvm.Cond.instanceMethod ({ cls := "PaneKeepsWeather", name := "daysBy", desc := "(Ljava/lang/Object;IIZ)I" } : Jvm.MethodName)) ∈ lw_all := lw_g (lw_at lw_m5 51 rfl) rfl
theorem q1112 : (Jvm.Cond.code ({ cls := "PaneKeepsWeather", name := "daysBy", desc := "(Ljava/lang/Object;IIZ)I" } : Jvm.MethodName) prog_1_method_73_code (7 : Nat) (Option.some Jvm.ClassFile.FieldType.int)) ∈ lw_all := lw_g (lw_at lw_m5 52 rfl) rfl
theorem q1113 : (Jvm.Cond.methodLink "PaneKeepsWeather" (482 : Nat) ({ cls := "PaneKeepsWeather", name := "textsOf", desc := "(Ljava/lang/Object;II)I" } : Jvm.MethodName)) ∈ lw_all := lw_g (lw_at lw_m5 53 rfl) rfl
theorem q1114 : (Jvm.Cond.privateMethod ({ cls := "PaneKeepsWeather", name := "textsOf", desc := "(Ljava/lang/Object;II)I" } : Jvm.MethodName)) ∈ lw_tbl := lw_at lw_m5 54 rfl
theorem q1115 : (Jvm.Cond.instanceMethod ({ cls := "PaneKeepsWeather", name := "textsOf", desc := "(Ljava/lang/Object;II)I" } : Jvm.MethodName)) ∈ lw_all := lw_g (lw_at lw_m5 55 rfl) rfl
theorem q1116 : (Jvm.Cond.codeWith ({ cls := "PaneKeepsWeather", name := "textsOf", desc := "(Ljava/lang/Object;II)I" } : Jvm.MethodName) prog_1_method_74_code (8 : Nat) (Option.some Jvm.ClassFile.FieldType.int) [((9 : Nat), (57 : Nat), (66 : Nat), (0 : Nat)), ((66 : Nat), (68 : Nat), (66 : Nat), (0 : Nat))]) ∈ lw_all := lw_g (lw_at lw_m5 56 rfl) rfl
theorem q1118 : (Jvm.Cond.instanceMethod ({ cls := "PaneKeepsWeather", name := "film", desc := "(III)I" } : Jvm.MethodName)) ∈ lw_all := lw_g (lw_at lw_m5 58 rfl) rfl
theorem q1119 : (Jvm.Cond.selects "PaneKeepsWeather" ({ cls := "PaneKeepsWeather", name := "film", desc := "(III)I" } : Jvm.MethodName) ({ cls := "PaneKeepsWeather", name := "film", desc := "(III)I" } : Jvm.MethodName)) ∈ lw_all := lw_g (lw_at lw_m5 59 rfl) rfl
theorem q1120 : (Jvm.Cond.code ({ cls := "PaneKeepsWeather", name := "film", desc := "(III)I" } : Jvm.MethodName) prog_1_method_77_code (5 : Nat) (Option.some Jvm.ClassFile.FieldType.int)) ∈ lw_all := lw_g (lw_at lw_m5 60 rfl) rfl
theorem q1121 : (Jvm.Cond.methodLink "PaneKeepsWeather" (506 : Nat) ({ cls := "PaneKeepsWeather", name := "sheet", desc := "(III)I" } : Jvm.MethodName)) ∈ lw_all := lw_g (lw_at lw_m5 61 rfl) rfl
theorem q1122 : (Jvm.Cond.instanceMethod ({ cls := "PaneKeepsWeather", name := "sheet", desc := "(III)I" } : Jvm.MethodName)) ∈ lw_all := lw_g (lw_at lw_m5 62 rfl) rfl
theorem q1123 : (Jvm.Cond.selects "PaneKeepsWeather" ({ cls := "PaneKeepsWeather", name := "sheet", desc := "(III)I" } : Jvm.MethodName) ({ cls := "PaneKeepsWeather", name := "sheet", desc := "(III)I" } : Jvm.MethodName)) ∈ lw_all := lw_g (lw_at lw_m5 63 rfl) rfl
theorem q1124 : (Jvm.Cond.codeWith ({ cls := "PaneKeepsWeather", name := "sheet", desc := "(III)I" } : Jvm.MethodName) prog_1_method_90_code (5 : Nat) (Option.some Jvm.ClassFile.FieldType.int) [((52 : Nat), (67 : Nat), (68 : Nat), (547 : Nat))]) ∈ lw_all := lw_g (lw_at lw_m5 64 rfl) rfl
theorem q1125 : (Jvm.Cond.classLink "PaneKeepsWeather" (547 : Nat) "java/lang/NegativeArraySizeException") ∈ lw_all := lw_g (lw_at lw_m5 65 rfl) rfl
theorem q1152 : (Jvm.Cond.constantLong "PaneKeepsWeather" (541 : Nat) (-1 : Int64)) ∈ lw_all := lw_g (lw_at lw_m5 92 rfl) rfl
theorem q1153 : (Jvm.Cond.methodLink "PaneKeepsWeather" (543 : Nat) ({ cls := "PaneKeepsWeather", name := "rowOf", desc := "(II)Ljava/lang/Object;" } : Jvm.MethodName)) ∈ lw_all := lw_g (lw_at lw_m5 93 rfl) rfl
theorem q1154 : (Jvm.Cond.static ({ cls := "PaneKeepsWeather", name := "rowOf", desc := "(II)Ljava/lang/Object;" } : Jvm.MethodName)) ∈ lw_all := lw_g (lw_at lw_m5 94 rfl) rfl
theorem q1155 : (Jvm.Cond.code ({ cls := "PaneKeepsWeather", name := "rowOf", desc := "(II)Ljava/lang/Object;" } : Jvm.MethodName) prog_1_method_89_code (2 : Nat) (Option.some (Jvm.ClassFile.FieldType.object "java/lang/Object"))) ∈ lw_all := lw_g (lw_at lw_m5 95 rfl) rfl
theorem q1156 : (Jvm.Cond.methodLink "PaneKeepsWeather" (509 : Nat) ({ cls := "PaneKeepsWeather", name := "cell", desc := "(III)I" } : Jvm.MethodName)) ∈ lw_all := lw_g (lw_at lw_m5 96 rfl) rfl
theorem q1157 : (Jvm.Cond.instanceMethod ({ cls := "PaneKeepsWeather", name := "cell", desc := "(III)I" } : Jvm.MethodName)) ∈ lw_all := lw_g (lw_at lw_m5 97 rfl) rfl
theorem q1158 : (Jvm.Cond.selects "PaneKeepsWeather" ({ cls := "PaneKeepsWeather", name := "cell", desc := "(III)I" } : Jvm.MethodName) ({ cls := "PaneKeepsWeather", name := "cell", desc := "(III)I" } : Jvm.MethodName)) ∈ lw_all := lw_g (lw_at lw_m5 98 rfl) rfl
theorem q1159 : (Jvm.Cond.codeWith ({ cls := "PaneKeepsWeather", name := "cell", desc := "(III)I" } : Jvm.MethodName) prog_1_method_92_code (5 : Nat) (Option.some Jvm.ClassFile.FieldType.int) [((10 : Nat), (24 : Nat), (25 : Nat), (559 : Nat)), ((10 : Nat), (24 : Nat), (30 : Nat), (561 : Nat))]) ∈ lw_all := lw_g (lw_at lw_m5 99 rfl) rfl
theorem q1160 : (Jvm.Cond.classLink "PaneKeepsWeather" (559 : Nat) "java/lang/NullPointerException") ∈ lw_all := lw_g (lw_at lw_m5 100 rfl) rfl
theorem q1197 : (Jvm.Cond.methodLink "PaneKeepsWeather" (556 : Nat) ({ cls := "PaneKeepsWeather", name := "put", desc := "(Ljava/lang/Object;II)I" } : Jvm.MethodName)) ∈ lw_all := lw_g (lw_at lw_m5 137 rfl) rfl
theorem q1198 : (Jvm.Cond.static ({ cls := "PaneKeepsWeather", name := "put", desc := "(Ljava/lang/Object;II)I" } : Jvm.MethodName)) ∈ lw_all := lw_g (lw_at lw_m5 138 rfl) rfl
theorem q1199 : (Jvm.Cond.code ({ cls := "PaneKeepsWeather", name := "put", desc := "(Ljava/lang/Object;II)I" } : Jvm.MethodName) prog_1_method_91_code (3 : Nat) (Option.some Jvm.ClassFile.FieldType.int)) ∈ lw_all := lw_g (lw_at lw_m5 139 rfl) rfl
theorem q1202 : (Jvm.Cond.instanceMethod ({ cls := "PaneKeepsWeather", name := "drawn", desc := "(I)I" } : Jvm.MethodName)) ∈ lw_all := lw_g (lw_at lw_m5 142 rfl) rfl
theorem q1203 : (Jvm.Cond.selects "PaneKeepsWeather" ({ cls := "PaneKeepsWeather", name := "drawn", desc := "(I)I" } : Jvm.MethodName) ({ cls := "PaneKeepsWeather", name := "drawn", desc := "(I)I" } : Jvm.MethodName)) ∈ lw_all := lw_g (lw_at lw_m5 143 rfl) rfl
theorem q1204 : (Jvm.Cond.codeWith ({ cls := "PaneKeepsWeather", name := "drawn", desc := "(I)I" } : Jvm.MethodName) prog_1_method_80_code (4 : Nat) (Option.some Jvm.ClassFile.FieldType.int) [((5 : Nat), (10 : Nat), (16 : Nat), (0 : Nat))]) ∈ lw_all := lw_g (lw_at lw_m5 144 rfl) rfl
theorem q1205 : (Jvm.Cond.methodLink "PaneKeepsWeather" (513 : Nat) ({ cls := "PaneKeepsWeather", name := "drawsDays", desc := "(I)V" } : Jvm.MethodName)) ∈ lw_all := lw_g (lw_at lw_m5 145 rfl) rfl
theorem q1206 : (Jvm.Cond.privateMethod ({ cls := "PaneKeepsWeather", name := "drawsDays", desc := "(I)V" } : Jvm.MethodName)) ∈ lw_tbl := lw_at lw_m5 146 rfl
theorem q1207 : (Jvm.Cond.instanceMethod ({ cls := "PaneKeepsWeather", name := "drawsDays", desc := "(I)V" } : Jvm.MethodName)) ∈ lw_all := lw_g (lw_at lw_m5 147 rfl) rfl
theorem q1208 : (Jvm.Cond.code ({ cls := "PaneKeepsWeather", name := "drawsDays", desc := "(I)V" } : Jvm.MethodName) prog_1_method_78_code (4 : Nat) (Option.none : Option Jvm.ClassFile.FieldType)) ∈ lw_all := lw_g (lw_at lw_m5 148 rfl) rfl
theorem q1209 : (Jvm.Cond.constant "PaneKeepsWeather" (512 : Nat) (1103515245 : Int32)) ∈ lw_all := lw_g (lw_at lw_m5 149 rfl) rfl
theorem q1210 : (Jvm.Cond.methodLink "PaneKeepsWeather" (516 : Nat) ({ cls := "PaneKeepsWeather", name := "laysDays", desc := "()V" } : Jvm.MethodName)) ∈ lw_all := lw_g (lw_at lw_m5 150 rfl) rfl
theorem q1211 : (Jvm.Cond.privateMethod ({ cls := "PaneKeepsWeather", name := "laysDays", desc := "()V" } : Jvm.MethodName)) ∈ lw_tbl := lw_at lw_m5 151 rfl
theorem q1212 : (Jvm.Cond.instanceMethod ({ cls := "PaneKeepsWeather", name := "laysDays", desc := "()V" } : Jvm.MethodName)) ∈ lw_all := lw_g (lw_at lw_m5 152 rfl) rfl
theorem q1213 : (Jvm.Cond.code ({ cls := "PaneKeepsWeather", name := "laysDays", desc := "()V" } : Jvm.MethodName) prog_1_method_79_code (2 : Nat) (Option.none : Option Jvm.ClassFile.FieldType)) ∈ lw_all := lw_g (lw_at lw_m5 153 rfl) rfl
theorem q1215 : (Jvm.Cond.instanceMethod ({ cls := "PaneKeepsWeather", name := "chance", desc := "(III)J" } : Jvm.MethodName)) ∈ lw_all := lw_g (lw_at lw_m5 155 rfl) rfl
theorem q1216 : (Jvm.Cond.selects "PaneKeepsWeather" ({ cls := "PaneKeepsWeather", name := "chance", desc := "(III)J" } : Jvm.MethodName) ({ cls := "PaneKeepsWeather", name := "chance", desc := "(III)J" } : Jvm.MethodName)) ∈ lw_all := lw_g (lw_at lw_m5 156 rfl) rfl
theorem q1217 : (Jvm.Cond.code ({ cls := "PaneKeepsWeather", name := "chance", desc := "(III)J" } : Jvm.MethodName) prog_1_method_82_code (12 : Nat) (Option.some Jvm.ClassFile.FieldType.long)) ∈ lw_all := lw_g (lw_at lw_m5 157 rfl) rfl
theorem q1218 : (Jvm.Cond.constantLong "PaneKeepsWeather" (519 : Nat) (20 : Int64)) ∈ lw_all := lw_g (lw_at lw_m5 158 rfl) rfl
theorem q1219 : (Jvm.Cond.constantLong "PaneKeepsWeather" (521 : Nat) (-4611686018427387904 : Int64)) ∈ lw_all := lw_g (lw_at lw_m5 159 rfl) rfl
theorem q1220 : (Jvm.Cond.methodLink "PaneKeepsWeather" (523 : Nat) ({ cls := "PaneKeepsWeather", name := "isPeace", desc := "(I)Z" } : Jvm.MethodName)) ∈ lw_all := lw_g (lw_at lw_m5 160 rfl) rfl
theorem q1221 : (Jvm.Cond.privateMethod ({ cls := "PaneKeepsWeather", name := "isPeace", desc := "(I)Z" } : Jvm.MethodName)) ∈ lw_tbl := lw_at lw_m5 161 rfl
theorem q1222 : (Jvm.Cond.instanceMethod ({ cls := "PaneKeepsWeather", name := "isPeace", desc := "(I)Z" } : Jvm.MethodName)) ∈ lw_all := lw_g (lw_at lw_m5 162 rfl) rfl
theorem q1223 : (Jvm.Cond.codeWith ({ cls := "PaneKeepsWeather", name := "isPeace", desc := "(I)Z" } : Jvm.MethodName) prog_1_method_81_code (4 : Nat) (Option.some Jvm.ClassFile.FieldType.boolean) [((5 : Nat), (18 : Nat), (24 : Nat), (0 : Nat))]) ∈ lw_all := lw_g (lw_at lw_m5 163 rfl) rfl
theorem q1225 : (Jvm.Cond.instanceMethod ({ cls := "PaneKeepsWeather", name := "image", desc := "()I" } : Jvm.MethodName)) ∈ lw_all := lw_g (lw_at lw_m5 165 rfl) rfl
theorem q1226 : (Jvm.Cond.selects "PaneKeepsWeather" ({ cls := "PaneKeepsWeather", name := "image", desc := "()I" } : Jvm.MethodName) ({ cls := "PaneKeepsWeather", name := "image", desc := "()I" } : Jvm.MethodName)) ∈ lw_all := lw_g (lw_at lw_m5 166 rfl) rfl
theorem q1227 : (Jvm.Cond.code ({ cls := "PaneKeepsWeather", name := "image", desc := "()I" } : Jvm.MethodName) prog_1_method_83_code (2 : Nat) (Option.some Jvm.ClassFile.FieldType.int)) ∈ lw_all := lw_g (lw_at lw_m5 167 rfl) rfl
theorem q1228 : (Jvm.Cond.methodLink "PaneKeepsWeather" (526 : Nat) ({ cls := "java/lang/System", name := "arraycopy", desc := "(Ljava/lang/Object;ILjava/lang/Object;II)V" } : Jvm.MethodName)) ∈ lw_all := lw_g (lw_at lw_m5 168 rfl) rfl
theorem q1232 : (Jvm.Cond.instanceMethod ({ cls := "PaneKeepsWeather", name := "back", desc := "()I" } : Jvm.MethodName)) ∈ lw_all := lw_g (lw_at lw_m5 172 rfl) rfl
theorem q1233 : (Jvm.Cond.selects "PaneKeepsWeather" ({ cls := "PaneKeepsWeather", name := "back", desc := "()I" } : Jvm.MethodName) ({ cls := "PaneKeepsWeather", name := "back", desc := "()I" } : Jvm.MethodName)) ∈ lw_all := lw_g (lw_at lw_m5 173 rfl) rfl
theorem q1234 : (Jvm.Cond.code ({ cls := "PaneKeepsWeather", name := "back", desc := "()I" } : Jvm.MethodName) prog_1_method_84_code (2 : Nat) (Option.some Jvm.ClassFile.FieldType.int)) ∈ lw_all := lw_g (lw_at lw_m5 174 rfl) rfl
theorem q1236 : (Jvm.Cond.instanceMethod ({ cls := "PaneKeepsWeather", name := "count", desc := "(I)I" } : Jvm.MethodName)) ∈ lw_all := lw_g (lw_at lw_m5 176 rfl) rfl
theorem q1237 : (Jvm.Cond.selects "PaneKeepsWeather" ({ cls := "PaneKeepsWeather", name := "count", desc := "(I)I" } : Jvm.MethodName) ({ cls := "PaneKeepsWeather", name := "count", desc := "(I)I" } : Jvm.MethodName)) ∈ lw_all := lw_g (lw_at lw_m5 177 rfl) rfl
theorem q1238 : (Jvm.Cond.code ({ cls := "PaneKeepsWeather", name := "count", desc := "(I)I" } : Jvm.MethodName) prog_1_method_87_code (2 : Nat) (Option.some Jvm.ClassFile.FieldType.int)) ∈ lw_all := lw_g (lw_at lw_m5 178 rfl) rfl
theorem q1239 : (Jvm.Cond.methodLink "PaneKeepsWeather" (535 : Nat) ({ cls := "PaneKeepsWeather", name := "inMany", desc := "()I" } : Jvm.MethodName)) ∈ lw_all := lw_g (lw_at lw_m5 179 rfl) rfl
theorem q1240 : (Jvm.Cond.privateMethod ({ cls := "PaneKeepsWeather", name := "inMany", desc := "()I" } : Jvm.MethodName)) ∈ lw_tbl := lw_at lw_m5 180 rfl
theorem q1241 : (Jvm.Cond.instanceMethod ({ cls := "PaneKeepsWeather", name := "inMany", desc := "()I" } : Jvm.MethodName)) ∈ lw_all := lw_g (lw_at lw_m5 181 rfl) rfl
theorem q1242 : (Jvm.Cond.code ({ cls := "PaneKeepsWeather", name := "inMany", desc := "()I" } : Jvm.MethodName) prog_1_method_85_code (3 : Nat) (Option.some Jvm.ClassFile.FieldType.int)) ∈ lw_all := lw_g (lw_at lw_m5 182 rfl) rfl
theorem q1243 : (Jvm.Cond.methodLink "PaneKeepsWeather" (538 : Nat) ({ cls := "PaneKeepsWeather", name := "brokenMany", desc := "()I" } : Jvm.MethodName)) ∈ lw_all := lw_g (lw_at lw_m5 183 rfl) rfl
theorem q1244 : (Jvm.Cond.privateMethod ({ cls := "PaneKeepsWeather", name := "brokenMany", desc := "()I" } : Jvm.MethodName)) ∈ lw_tbl := lw_at lw_m5 184 rfl
theorem q1245 : (Jvm.Cond.instanceMethod ({ cls := "PaneKeepsWeather", name := "brokenMany", desc := "()I" } : Jvm.MethodName)) ∈ lw_all := lw_g (lw_at lw_m5 185 rfl) rfl
theorem q1246 : (Jvm.Cond.code ({ cls := "PaneKeepsWeather", name := "brokenMany", desc := "()I" } : Jvm.MethodName) prog_1_method_86_code (3 : Nat) (Option.some Jvm.ClassFile.FieldType.int)) ∈ lw_all := lw_g (lw_at lw_m5 186 rfl) rfl
theorem q1250 : (Jvm.Cond.instanceMethod ({ cls := "PaneKeepsWeather", name := "copy", desc := "(IIIII)I" } : Jvm.MethodName)) ∈ lw_all := lw_g (lw_at lw_m5 190 rfl) rfl
theorem q1251 : (Jvm.Cond.selects "PaneKeepsWeather" ({ cls := "PaneKeepsWeather", name := "copy", desc := "(IIIII)I" } : Jvm.MethodName) ({ cls := "PaneKeepsWeather", name := "copy", desc := "(IIIII)I" } : Jvm.MethodName)) ∈ lw_all := lw_g (lw_at lw_m5 191 rfl) rfl
theorem q1252 : (Jvm.Cond.code ({ cls := "PaneKeepsWeather", name := "copy", desc := "(IIIII)I" } : Jvm.MethodName) prog_1_method_97_code (10 : Nat) (Option.some Jvm.ClassFile.FieldType.int)) ∈ lw_all := lw_g (lw_at lw_m5 192 rfl) rfl
theorem q1254 : (Jvm.Cond.instanceMethod ({ cls := "PaneKeepsWeather", name := "panes", desc := "(IIII)I" } : Jvm.MethodName)) ∈ lw_all := lw_g (lw_at lw_m5 194 rfl) rfl
theorem q1255 : (Jvm.Cond.selects "PaneKeepsWeather" ({ cls := "PaneKeepsWeather", name := "panes", desc := "(IIII)I" } : Jvm.MethodName) ({ cls := "PaneKeepsWeather", name := "panes", desc := "(IIII)I" } : Jvm.MethodName)) ∈ lw_all := lw_g (lw_at lw_m5 195 rfl) rfl
theorem q1256 : (Jvm.Cond.codeWith ({ cls := "PaneKeepsWeather", name := "panes", desc := "(IIII)I" } : Jvm.MethodName) prog_1_method_99_code (6 : Nat) (Option.some Jvm.ClassFile.FieldType.int) [((35 : Nat), (52 : Nat), (53 : Nat), (572 : Nat)), ((35 : Nat), (52 : Nat), (58 : Nat), (559 : Nat)), ((35 : Nat), (52 : Nat), (63 : Nat), (561 : Nat))]) ∈ lw_all := lw_g (lw_at lw_m5 196 rfl) rfl
theorem q1257 : (Jvm.Cond.classLink "PaneKeepsWeather" (572 : Nat) "java/lang/ClassCastException") ∈ lw_all := lw_g (lw_at lw_m5 197 rfl) rfl
theorem q1271 : (Jvm.Cond.constantLong "PaneKeepsWeather" (567 : Nat) (6 : Int64)) ∈ lw_all := lw_g (lw_at lw_m5 211 rfl) rfl
theorem q1272 : (Jvm.Cond.methodLink "PaneKeepsWeather" (569 : Nat) ({ cls := "PaneKeepsWeather", name := "came", desc := "(Ljava/lang/Object;III)I" } : Jvm.MethodName)) ∈ lw_all := lw_g (lw_at lw_m5 212 rfl) rfl
theorem q1273 : (Jvm.Cond.privateMethod ({ cls := "PaneKeepsWeather", name := "came", desc := "(Ljava/lang/Object;III)I" } : Jvm.MethodName)) ∈ lw_tbl := lw_at lw_m5 213 rfl
theorem q1274 : (Jvm.Cond.instanceMethod ({ cls := "PaneKeepsWeather", name := "came", desc := "(Ljava/lang/Object;III)I" } : Jvm.MethodName)) ∈ lw_all := lw_g (lw_at lw_m5 214 rfl) rfl
theorem q1275 : (Jvm.Cond.code ({ cls := "PaneKeepsWeather", name := "came", desc := "(Ljava/lang/Object;III)I" } : Jvm.MethodName) prog_1_method_98_code (10 : Nat) (Option.some Jvm.ClassFile.FieldType.int)) ∈ lw_all := lw_g (lw_at lw_m5 215 rfl) rfl
theorem q1276 : (Jvm.Cond.methodLink "PaneKeepsWeather" (564 : Nat) ({ cls := "PaneKeepsWeather", name := "pane", desc := "(III)I" } : Jvm.MethodName)) ∈ lw_all := lw_g (lw_at lw_m5 216 rfl) rfl
theorem q1278 : (Jvm.Cond.instanceMethod ({ cls := "PaneKeepsWeather", name := "taken", desc := "(II)I" } : Jvm.MethodName)) ∈ lw_all := lw_g (lw_at lw_m5 218 rfl) rfl
theorem q1279 : (Jvm.Cond.selects "PaneKeepsWeather" ({ cls := "PaneKeepsWeather", name := "taken", desc := "(II)I" } : Jvm.MethodName) ({ cls := "PaneKeepsWeather", name := "taken", desc := "(II)I" } : Jvm.MethodName)) ∈ lw_all := lw_g (lw_at lw_m5 219 rfl) rfl
theorem q1280 : (Jvm.Cond.codeWith ({ cls := "PaneKeepsWeather", name := "taken", desc := "(II)I" } : Jvm.MethodName) prog_1_method_101_code (4 : Nat) (Option.some Jvm.ClassFile.FieldType.int) [((15 : Nat), (40 : Nat), (41 : Nat), (559 : Nat)), ((15 : Nat), (40 : Nat), (45 : Nat), (572 : Nat))]) ∈ lw_all := lw_g (lw_at lw_m5 220 rfl) rfl
theorem q1281 : (Jvm.Cond.methodLink "PaneKeepsWeather" (574 : Nat) ({ cls := "PaneKeepsWeather", name := "as", desc := "(LPaneKeepsWeather$Pane;I)LPaneKeepsWeather$Pane;" } : Jvm.MethodName)) ∈ lw_all := lw_g (lw_at lw_m5 221 rfl) rfl
theorem q1282 : (Jvm.Cond.static ({ cls := "PaneKeepsWeather", name := "as", desc := "(LPaneKeepsWeather$Pane;I)LPaneKeepsWeather$Pane;" } : Jvm.MethodName)) ∈ lw_all := lw_g (lw_at lw_m5 222 rfl) rfl
theorem q1283 : (Jvm.Cond.code ({ cls := "PaneKeepsWeather", name := "as", desc := "(LPaneKeepsWeather$Pane;I)LPaneKeepsWeather$Pane;" } : Jvm.MethodName) prog_1_method_100_code (2 : Nat) (Option.some (Jvm.ClassFile.FieldType.object "PaneKeepsWeather$Pane"))) ∈ lw_all := lw_g (lw_at lw_m5 223 rfl) rfl
theorem in_X0 : ∀ w ∈ wsX00, w ∈ lw_all := lw_in wsX00 [851, 853, 855, 857, 859, 861, 863, 865, 867, 869, 871, 873, 875, 877, 879, 881, 883, 885, 887, 889, 891, 893, 895, 897, 899, 901, 903, 905, 907, 909, 911, 913, 915, 917, 919] (by decide +kernel) (by decide +kernel)
